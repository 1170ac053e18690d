/-! TIES: what the model's arrays of distances hold, in plain numbers -/
def hurtN (k td dy of : Nat) : Nat := if k = 4 then td + of else if k = 0 then 0 else if k = 2 then td - 2 * dy else if k = 3 then 9 - td else td
def inB (set : Int32) (i : Nat) : Bool := decide (((set >>> ((nI i) &&& 31)) &&& (nI 1)) = (nI 1))
def netT (t : TW) (dy td : Nat) (of : Nat → Nat) (set : Int32) : Net := (tn t, ta t, tb t, fun i => 1000 * hurtN (tk t i) td dy (of i) + tl t i, inB set)
theorem hurtN_le {k td dy of : Nat} (h1 : td ≤ 9) (h2 : of ≤ 5000) : hurtN k td dy of ≤ 5009 := by unfold hurtN; (repeat' split) <;> omega
theorem netT_ok {t : TW} (h : tOK t) (dy : Nat) {td : Nat} (htd : td ≤ 9) {of : Nat → Nat} (hof : ∀ i, i < tn t → of i ≤ 5000) (set : Int32) : (netT t dy td of set).ok 5009009 := by
  intro i hi
  obtain ⟨-, h1, h2, h3, h4, h5⟩ := h.2.2 i hi
  have := hurtN_le (k := tk t i) (dy := dy) htd (hof i hi)
  refine ⟨h1, h2, h3, ?_, ?_⟩
  · show 1 ≤ 1000 * hurtN (tk t i) td dy (of i) + tl t i
    omega
  · show 1000 * hurtN (tk t i) td dy (of i) + tl t i ≤ 5009009
    omega
/-- the model's rows, by the town -/
def mTown (g : Nat → Nat) (a : Nat → Nat → Int32) (t : TW) : Prop := g 4 = tn t ∧ ∀ s, s < tn t → a 7 (4 * s) = nI (tk t s) ∧ a 7 (4 * s + 1) = nI (ta t s) ∧ a 7 (4 * s + 2) = nI (tb t s) ∧ a 7 (4 * s + 3) = nI (tl t s)
theorem mTown.rows {g : Nat → Nat} {a : Nat → Nat → Int32} {t : TW} (h : mTown g a t) (ok : tOK t) : mRows (g 4) (a 7) := by
  obtain ⟨h1, h2⟩ := h
  rw [h1]
  refine ⟨ok.1, fun s e hs he1 he2 => ?_, fun s hs => ⟨tl t s, by have := ok.2.2 s hs; omega, (h2 s hs).2.2.2⟩⟩
  have hk := ok.2.2 s hs
  have he : e = 1 ∨ e = 2 := by omega
  rcases he with rfl | rfl
  · exact ⟨_, hk.2.1, (h2 s hs).2.1⟩
  · exact ⟨_, hk.2.2.1, (h2 s hs).2.2.1⟩
theorem nI_eqI {a b : Nat} (ha : a < 2 ^ 31) (hb : b < 2 ^ 31) (h : ¬ a = b) : ¬ nI a = nI b := fun q => h ((nI_eq ha hb).mp q)
theorem nI_sub {a b : Nat} (h : b ≤ a) (ha : a < 2 ^ 30) : nI a - nI b = nI (a - b) := by
  rw [← Int32.toInt_inj, pk_sub_toInt (by omega) (by omega), nI_toInt (by omega)]; omega
theorem nI_subneg {a b : Nat} (h : a < b) (hb : b < 2 ^ 30) : ¬ 0 ≤ nI a - nI b := by
  rw [Int32.le_iff_toInt_le, pk_sub_toInt (by omega) (by omega)]
  rw [show (0 : Int32).toInt = 0 from rfl]; omega
theorem m_hurtsBy {g : Nat → Nat} {a : Nat → Nat → Int32} {t : TW} (h : mTown g a t) (ok : tOK t) {pn td of s : Nat} (hs : s < tn t) (htd : td ≤ 9) (hdy : g 5 ≤ 1000000) (hof : a 9 (9 * pn + s) = nI of) : fX2_hurtsBy g a pn (nI td) s = nI (hurtN (tk t s) td (g 5) of) := by
  have hk := (ok.2.2 s hs).1
  unfold fX2_hurtsBy hurtN
  rw [(h.2 s hs).1, hof]
  generalize tk t s = k at hk ⊢
  rcases k with _ | _ | _ | _ | _ | k
  · simp [nI_eq, ← nI_0]
  · simp only [Nat.zero_add, ← nI_0, nI_eq (a := 1) (by decide) (b := 4) (by decide), nI_eq (a := 1) (by decide) (b := 0) (by decide), nI_eq (a := 1) (by decide) (b := 2) (by decide), nI_eq (a := 1) (by decide) (b := 3) (by decide)]
    simp [nI_leI (a := 0) (by decide) (b := td) (by omega)]
  · simp only [Nat.reduceAdd, ← nI_0, nI_eq (a := 2) (by decide) (b := 4) (by decide), nI_eq (a := 2) (by decide) (b := 0) (by decide)]
    simp only [Nat.reduceEqDiff, if_false, if_true]
    by_cases hle : 2 * g 5 ≤ td
    · rw [nI_sub hle (by omega)]
      simp [nI_leI (a := 0) (by decide) (b := td - 2 * g 5) (by omega)]
    · have := nI_subneg (a := td) (b := 2 * g 5) (by omega) (by omega)
      rw [← nI_0] at this
      rw [if_neg this, show td - 2 * g 5 = 0 by omega]
  · simp only [Nat.reduceAdd, ← nI_0, nI_eq (a := 3) (by decide) (b := 4) (by decide), nI_eq (a := 3) (by decide) (b := 0) (by decide), nI_eq (a := 3) (by decide) (b := 2) (by decide)]
    simp only [Nat.reduceEqDiff, if_false, if_true]
    rw [nI_sub htd (by omega)]
    simp [nI_leI (a := 0) (by decide) (b := 9 - td) (by omega)]
  · simp only [Nat.reduceAdd, ← nI_0, nI_eq (a := 4) (by decide) (b := 3) (by decide), nI_eq (a := 4) (by decide) (b := 0) (by decide), nI_eq (a := 4) (by decide) (b := 2) (by decide)]
    simp only [Nat.reduceEqDiff, if_false, if_true]
    simp [nI_leI (a := 0) (by decide) (b := td) (by omega), nI_add]
  · omega
theorem nI_mul (a b : Nat) : nI a * nI b = nI (a * b) := (Int32.ofNat_mul a b).symm
theorem m_costBy {g : Nat → Nat} {a : Nat → Nat → Int32} {t : TW} (h : mTown g a t) (ok : tOK t) {pn td s : Nat} {of : Nat → Nat} (hs : s < tn t) (htd : td ≤ 9) (hdy : g 5 ≤ 1000000) (hof : a 9 (9 * pn + s) = nI (of s)) (set : Int32) : fX2_costBy g a pn (nI td) s = nI ((netT t (g 5) td of set).c s) := by
  unfold fX2_costBy
  rw [m_hurtsBy h ok hs htd hdy hof, (h.2 s hs).2.2.2, nI_mul, nI_add]
  rfl
/-- an array of ints holds these distances -/
def holds8 (S : Nat → Int32) (D : Nat → Nat) : Prop := ∀ x, x < 8 → S x = nI (D x)
theorem holds8.up {S : Nat → Int32} {D : Nat → Nat} (h : holds8 S D) {k v : Nat} {w : Int32} (hw : w = nI v) : holds8 (upd S k w) (nu D k v) := by
  intro x hx
  unfold upd nu
  by_cases hk : x = k
  · rw [if_pos hk, if_pos hk, hw]
  · rw [if_neg hk, if_neg hk]; exact h x hx
theorem m_min {p q : Nat} (hp : p < 2 ^ 31) (hq : q < 2 ^ 31) : (if nI p ≤ nI q then nI p else nI q) = nI (min p q) := by
  by_cases h : p ≤ q
  · rw [if_pos ((nI_leI hp hq).mpr h), Nat.min_eq_left h]
  · rw [if_neg (fun k => h ((nI_leI hp hq).mp k)), Nat.min_eq_right (by omega)]
theorem m_relax {S : Nat → Int32} {D : Nat → Nat} (h : holds8 S D) {x y c : Nat} (hx : x < 8) (hy : y < 8) (hb1 : D x < 2 ^ 31) (hb2 : D y + c < 2 ^ 31) : holds8 (upd S x (if S x ≤ S y + nI c then S x else S y + nI c)) (rl D x y c) := by
  refine h.up ?_
  rw [h x hx, h y hy, nI_add, m_min hb1 hb2]
theorem upd_if {q : Prop} [Decidable q] (S : Nat → Int32) (k : Nat) (v w : Int32) : (if q then upd S k v else upd S k w) = upd S k (if q then v else w) := by split <;> rfl
theorem m_layAway_step {g : Nat → Nat} {a : Nat → Nat → Int32} {t : TW} (h : mTown g a t) (ok : tOK t) {pn td to : Nat} {of : Nat → Nat} (htd : td ≤ 9) (hdy : g 5 ≤ 1000000) (hof : ∀ s, s < tn t → a 9 (9 * pn + s) = nI (of s) ∧ of s ≤ 5000) (set : Int32)
    {S : Nat → Int32} {D : Nat → Nat} (hS : holds8 S D) (hD : (netT t (g 5) td of set).Inv 1000000000 to 5009009 D) {i : Nat} (hi : i < tn t) : holds8 (fX2_layAway_b48 g a pn (nI td) set i S) ((netT t (g 5) td of set).st i D) := by
  have nok := netT_ok ok (g 5) htd (fun s hs => (hof s hs).2) set
  obtain ⟨h1, h2, h3, h4, h5⟩ := nok i hi
  unfold fX2_layAway_b48 Net.st
  rw [m_costBy h ok hi htd hdy (hof i hi).1 set, (h.2 i hi).2.1, (h.2 i hi).2.2.1]
  have hta : ta t i < 8 := h1
  have htb : tb t i < 8 := h2
  rw [toN_nI (by omega), toN_nI (by omega)]
  by_cases hI : ((set >>> ((nI i) &&& 31)) &&& (nI 1)) = (nI 1)
  · have hI' : (netT t (g 5) td of set).I i = true := decide_eq_true hI
    rw [if_pos hI, if_pos hI']
    have f1 := hD.far (ta t i)
    have f2 := hD.far (tb t i)
    have e1 := m_relax hS hta htb (c := (netT t (g 5) td of set).c i) (by omega) (by omega)
    have inv1 := hD.relax nok (Net.joins_ab (N := netT t (g 5) td of set) hi hI').1
    have f3 := inv1.far (ta t i)
    have f4 := inv1.far (tb t i)
    have e2 := m_relax e1 htb hta (c := (netT t (g 5) td of set).c i) (by exact Nat.lt_of_le_of_lt f4 (by decide)) (by have : rl D (ta t i) (tb t i) ((netT t (g 5) td of set).c i) (ta t i) ≤ 1000000000 := f3; omega)
    rw [upd_if]
    exact e2
  · have hI' : ¬ (netT t (g 5) td of set).I i = true := fun q => hI (of_decide_eq_true q)
    rw [if_neg hI, if_neg hI']
    exact hS
theorem holds8_init {z : Nat → Int32} {to F : Nat} {b : Nat → (Nat → Int32) → Nat → Int32} (hb : ∀ i S, b i S = if i = to then upd S i (nI 0) else upd S i (nI F)) : holds8 (it b 8 z) (d0 F to) := by
  have key : ∀ n x, x < n → it b n z x = nI (d0 F to x) := by
    intro n
    induction n with
    | zero => intro x hx; omega
    | succ n ih =>
      intro x hx
      rw [it_succ, hb]
      by_cases hxn : x = n
      · subst hxn
        unfold d0
        split
        · exact if_pos rfl
        · exact if_pos rfl
      · have := ih x (by omega)
        split
        · exact (if_neg hxn).trans this
        · exact (if_neg hxn).trans this
  exact fun x hx => key 8 x hx
/-- what layAway lays -/
theorem m_layAway {g : Nat → Nat} {a z : Nat → Nat → Int32} {t : TW} (h : mTown g a t) (ok : tOK t) {pn td to : Nat} {of : Nat → Nat} (ht : to < 8) (htd : td ≤ 9) (hdy : g 5 ≤ 1000000) (hof : ∀ s, s < tn t → a 9 (9 * pn + s) = nI (of s) ∧ of s ≤ 5000) (set : Int32) :
    holds8 (fX2_layAway g a z pn (nI td) to set) ((netT t (g 5) td of set).ds 1000000000 to) := by
  have nok := netT_ok ok (g 5) htd (fun s hs => (hof s hs).2) set
  have inv0 := Net.Inv.init (C := 5009009) (netT t (g 5) td of set) (F := 1000000000) (by decide) ht
  have key : ∀ k, holds8 (it (fX2_layAway_b38 g a pn (nI td) set) k (it (fX2_layAway_b3 to) 8 (z 11))) ((netT t (g 5) td of set).rds k (d0 1000000000 to)) := by
    intro k
    induction k with
    | zero => exact holds8_init fun _ _ => rfl
    | succ k ih =>
      rw [it_succ]
      have inv := inv0.rds nok k
      show holds8 (it (fX2_layAway_b48 g a pn (nI td) set) (g 4) (it (fX2_layAway_b38 g a pn (nI td) set) k (it (fX2_layAway_b3 to) 8 (z 11)))) (it (netT t (g 5) td of set).st (tn t) ((netT t (g 5) td of set).rds k (d0 1000000000 to)))
      rw [h.1]
      have key2 : ∀ m, m ≤ tn t → holds8 (it (fX2_layAway_b48 g a pn (nI td) set) m (it (fX2_layAway_b38 g a pn (nI td) set) k (it (fX2_layAway_b3 to) 8 (z 11)))) (it (netT t (g 5) td of set).st m ((netT t (g 5) td of set).rds k (d0 1000000000 to))) := by
        intro m
        induction m with
        | zero => intro _; exact ih
        | succ m ihm =>
          intro hm
          rw [it_succ, it_succ]
          exact m_layAway_step h ok htd hdy hof set (ihm (by omega)) (inv.its nok m (by show m ≤ tn t; omega)) (by omega)
      exact key2 _ (Nat.le_refl _)
  exact key 8
/-- a loop downwards that keeps the last hit finds the least -/
theorem it_down {α : Type} {P : Nat → Bool} {n : Nat} {v : Nat → α} {S0 : α} {b : Nat → α → α} (hb : ∀ i S, i < n → b i S = if P (n - i - 1) = true then v (n - i - 1) else S) :
    it b n S0 = if least P n < n then v (least P n) else S0 := by
  have key : ∀ m, m ≤ n → ((∀ j, n - m ≤ j → j < n → P j = false) ∧ it b m S0 = S0) ∨ ∃ j, n - m ≤ j ∧ j < n ∧ P j = true ∧ (∀ k, n - m ≤ k → k < j → P k = false) ∧ it b m S0 = v j := by
    intro m
    induction m with
    | zero => intro _; exact .inl ⟨fun j h1 h2 => by omega, rfl⟩
    | succ m ih =>
      intro hm
      rw [it_succ, hb m _ (by omega)]
      by_cases hP : P (n - m - 1) = true
      · rw [if_pos hP]
        exact .inr ⟨n - m - 1, by omega, by omega, hP, fun k h1 h2 => by omega, rfl⟩
      · rw [if_neg hP]
        rcases ih (by omega) with ⟨h1, h2⟩ | ⟨j, h1, h2, h3, h4, h5⟩
        · refine .inl ⟨fun j hj1 hj2 => ?_, h2⟩
          by_cases hj : j = n - m - 1
          · subst hj; simpa using hP
          · exact h1 j (by omega) hj2
        · refine .inr ⟨j, by omega, h2, h3, fun k hk1 hk2 => ?_, h5⟩
          by_cases hk : k = n - m - 1
          · subst hk; simpa using hP
          · exact h4 k (by omega) hk2
  rcases key n (Nat.le_refl _) with ⟨h1, h2⟩ | ⟨j, h1, h2, h3, h4, h5⟩
  · rw [least_none fun k hk => h1 k (by omega) hk, if_neg (by omega), h2]
  · rw [least_eq h2 h3 fun k hk => h4 k (by omega) hk, if_pos h2, h5]
theorem nI_nm1 {n : Nat} (h : n < 2 ^ 31) : ¬ nI n = -1 := fun q => by
  have := congrArg Int32.toInt q
  rw [nI_toInt h, show (-1 : Int32).toInt = -1 from rfl] at this
  omega
theorem m_beyond {g : Nat → Nat} {a : Nat → Nat → Int32} {t : TW} (h : mTown g a t) (ok : tOK t) {s x : Nat} (hs : s < tn t) (hx : x < 8) (dy td : Nat) (of : Nat → Nat) (set : Int32) :
    fX2_beyond a s (nI x) = if (netT t dy td of set).ends s x = true then nI ((netT t dy td of set).oth s x) else -1 := by
  obtain ⟨-, h1, h2, -⟩ := ok.2.2 s hs
  unfold fX2_beyond Net.ends Net.oth
  rw [(h.2 s hs).2.1, (h.2 s hs).2.2.1]
  show _ = if (decide (ta t s = x) || decide (tb t s = x)) = true then nI (if ta t s = x then tb t s else ta t s) else -1
  simp only [nI_eq (a := ta t s) (b := x) (by omega) (by omega), nI_eq (a := tb t s) (b := x) (by omega) (by omega)]
  by_cases q1 : ta t s = x
  · simp [q1]
  · by_cases q2 : tb t s = x
    · simp [q1, q2]
    · simp [q1, q2]
/-- the first street of a shortest way -/
theorem m_firstStreet {g : Nat → Nat} {a z : Nat → Nat → Int32} {t : TW} (h : mTown g a t) (ok : tOK t) {pn td to x : Nat} {of : Nat → Nat} (hx : x < 8) (htd : td ≤ 9) (hdy : g 5 ≤ 1000000) (hof : ∀ s, s < tn t → a 9 (9 * pn + s) = nI (of s) ∧ of s ≤ 5000) (set : Int32)
    {D : Nat → Nat} (hz : holds8 (z 11) D) (hD : (netT t (g 5) td of set).Inv 1000000000 to 5009009 D) (hf : D x < 1000000000) :
    fX2_firstStreet g a z pn (nI td) x set = if (netT t (g 5) td of set).fs D x < tn t then nI ((netT t (g 5) td of set).fs D x) else -1 := by
  have nok := netT_ok ok (g 5) htd (fun s hs => (hof s hs).2) set
  unfold fX2_firstStreet
  rw [h.1]
  refine it_down (P := (netT t (g 5) td of set).tight D x) (v := nI) fun i S hi => ?_
  have hj : tn t - i - 1 < tn t := by omega
  unfold fX2_firstStreet_b11
  rw [h.1]
  generalize tn t - i - 1 = j at hj ⊢
  rw [m_costBy h ok hj htd hdy (hof j hj).1 set, m_beyond h ok hj hx (g 5) td of set, hz x hx]
  obtain ⟨n1, n2, n3, n4, n5⟩ := nok j hj
  unfold Net.tight
  have hI : (netT t (g 5) td of set).I j = decide (((set >>> ((nI j) &&& 31)) &&& (nI 1)) = (nI 1)) := rfl
  rw [hI]
  by_cases q1 : ((set >>> ((nI j) &&& 31)) &&& (nI 1)) = (nI 1)
  · rw [if_pos q1]
    by_cases q2 : (netT t (g 5) td of set).ends j x = true
    · have ho : (netT t (g 5) td of set).oth j x < 8 := by unfold Net.oth; split <;> assumption
      have f1 := hD.far ((netT t (g 5) td of set).oth j x)
      rw [if_pos q2, if_neg (nI_nm1 (by omega)), if_neg (nI_ge hf (by decide)), toN_nI (by omega), hz _ ho, nI_add, q2]
      simp only [nI_eq (a := D ((netT t (g 5) td of set).oth j x) + (netT t (g 5) td of set).c j) (b := D x) (by omega) (by omega), q1, decide_true, Bool.true_and, decide_eq_true_eq]
    · rw [if_neg q2, if_pos rfl]
      simp [q2]
  · rw [if_neg q1]
    simp [q1]
/-- a row with the way's first k streets laid -/
def wrow (N : Net) (D : Nat → Nat) (fr : Nat) (w : Nat → Int32) (k : Nat) : Nat → Int32 := it (fun i w => upd w i (nI (N.fs D (N.cs D fr i)))) k w
theorem wrow_at (N : Net) (D : Nat → Nat) (fr : Nat) (w : Nat → Int32) : ∀ k j, j < k → wrow N D fr w k j = nI (N.fs D (N.cs D fr j))
  | 0, j, h => by omega
  | k + 1, j, h => by
    show upd (wrow N D fr w k) k (nI (N.fs D (N.cs D fr k))) j = _
    unfold upd
    by_cases hj : j = k
    · rw [if_pos hj, hj]
    · rw [if_neg hj]; exact wrow_at N D fr w k j (by omega)
section
variable {g : Nat → Nat} {a z : Nat → Nat → Int32} {t : TW} {pn td fr to : Nat} {of : Nat → Nat} {set : Int32}
theorem m_way_it (h : mTown g a t) (ok : tOK t) (hfr : fr < 8) (ht : to < 8) (htd : td ≤ 9) (hta : a 8 (5 * pn) = nI td) (hdy : g 5 ≤ 1000000) (hof : ∀ s, s < tn t → a 9 (9 * pn + s) = nI (of s) ∧ of s ≤ 5000)
    {D : Nat → Nat} {aw : Nat → Int32} (hz : holds8 aw D) (hD : (netT t (g 5) td of set).Inv 1000000000 to 5009009 D) (hfx : (netT t (g 5) td of set).fixd D) (hf : D fr < 1000000000) :
    ∀ k, it (fX2_layWay_b35 g a z pn to set aw) k ((0, fr, z 12), false) =
      if k ≤ (netT t (g 5) td of set).wl D to fr then ((k, (netT t (g 5) td of set).cs D fr k, wrow (netT t (g 5) td of set) D fr (z 12) k), false)
      else (((netT t (g 5) td of set).wl D to fr, to, wrow (netT t (g 5) td of set) D fr (z 12) ((netT t (g 5) td of set).wl D to fr)), true) := by
  have nok := netT_ok ok (g 5) htd (fun s hs => (hof s hs).2) set
  obtain ⟨w1, w2, w3⟩ := Net.way nok ht hD hfx hfr hf
  intro k
  induction k with
  | zero => rw [if_pos (Nat.zero_le _)]; rfl
  | succ k ih =>
    rw [it_succ, ih]
    by_cases hk : k ≤ (netT t (g 5) td of set).wl D to fr
    · rw [if_pos hk]
      obtain ⟨c1, c2, c3⟩ := w3 k hk
      by_cases hlt : k < (netT t (g 5) td of set).wl D to fr
      · obtain ⟨d1, d2, d3, d4⟩ := c3 hlt
        have hz' : holds8 ((va_up (va_up z 11 aw) 12 (wrow (netT t (g 5) td of set) D fr (z 12) k)) 11) D := by
          have : (va_up (va_up z 11 aw) 12 (wrow (netT t (g 5) td of set) D fr (z 12) k)) 11 = aw := by simp [va_up]
          rw [this]; exact hz
        have e1 := m_firstStreet h ok c1 htd hdy hof set hz' hD c2
        have d2' : (netT t (g 5) td of set).fs D ((netT t (g 5) td of set).cs D fr k) < tn t := d2
        rw [if_pos d2'] at e1
        have hn9 := ok.1
        obtain ⟨o1, o2⟩ := Net.oth_of nok d3
        have e2 := m_beyond h ok d2' c1 (g 5) td of set
        rw [if_pos o1, o2] at e2
        have j8 := (Net.joins_lt nok d3).2.1
        rw [if_pos (show k + 1 ≤ (netT t (g 5) td of set).wl D to fr from hlt)]
        unfold fX2_layWay_b35
        dsimp only
        rw [if_neg (by decide), if_neg d1, hta, e1, toN_nI (by omega), e2, toN_nI (by omega)]
        rfl
      · have hke : k = (netT t (g 5) td of set).wl D to fr := by omega
        rw [if_neg (by omega)]
        unfold fX2_layWay_b35
        dsimp only
        rw [if_neg (by decide), if_pos (by rw [hke]; exact w2), ← hke, show (netT t (g 5) td of set).cs D fr k = to by rw [hke]; exact w2]
    · rw [if_neg hk, if_neg (by omega)]
      exact if_pos rfl
theorem m_wayOK (h : mTown g a t) (ok : tOK t) (hfr : fr < 8) (ht : to < 8) (htd : td ≤ 9) (hta : a 8 (5 * pn) = nI td) (hdy : g 5 ≤ 1000000) (hof : ∀ s, s < tn t → a 9 (9 * pn + s) = nI (of s) ∧ of s ≤ 5000)
    {D : Nat → Nat} {aw : Nat → Int32} (hz : holds8 aw D) (hD : (netT t (g 5) td of set).Inv 1000000000 to 5009009 D) (hfx : (netT t (g 5) td of set).fixd D) : mWayOK g a z pn fr to set aw := by
  intro hlt
  have nok := netT_ok ok (g 5) htd (fun s hs => (hof s hs).2) set
  have hf : D fr < 1000000000 := by
    rw [hz fr hfr] at hlt
    have := hD.far fr
    exact (nI_ltI (by omega) (by decide)).mp hlt
  obtain ⟨w1, w2, w3⟩ := Net.way nok ht hD hfx hfr hf
  have key := m_way_it (z := z) h ok hfr ht htd hta hdy hof hz hD hfx hf
  refine ⟨?_, ?_⟩
  · rw [key 8, if_neg (by omega)]
  · intro i c w hi e
    rw [key i] at e
    by_cases hk : i ≤ (netT t (g 5) td of set).wl D to fr
    · rw [if_pos hk] at e
      injection e with e1 _
      injection e1 with _ e2
      injection e2 with e3 e4
      subst e3
      obtain ⟨c1, c2, c3⟩ := w3 i hk
      refine ⟨c1, fun hne => ?_⟩
      have hlt : i < (netT t (g 5) td of set).wl D to fr := Nat.lt_of_le_of_ne hk fun q => hne (by rw [q]; exact w2)
      obtain ⟨d1, d2, d3, d4⟩ := c3 hlt
      have d2' : (netT t (g 5) td of set).fs D ((netT t (g 5) td of set).cs D fr i) < tn t := d2
      have hz' : holds8 ((va_up (va_up z 11 aw) 12 w) 11) D := by
        have : (va_up (va_up z 11 aw) 12 w) 11 = aw := by simp [va_up]
        rw [this]; exact hz
      have e1 := m_firstStreet h ok c1 htd hdy hof set hz' hD c2
      rw [if_pos d2'] at e1
      obtain ⟨o1, o2⟩ := Net.oth_of nok d3
      have e2 := m_beyond h ok d2' c1 (g 5) td of set
      rw [if_pos o1, o2] at e2
      have hn9 := ok.1
      rw [hta, e1, toN_nI (by omega), e2]
      exact ⟨⟨_, by rw [h.1]; exact d2', rfl⟩, ⟨_, (Net.joins_lt nok d3).2.1, rfl⟩⟩
    · rw [if_neg hk] at e
      injection e with _ e1
      cases e1
end
theorem Met.weak {l : Launch} {y : MethodName} {ws : List Cond} {rm : Room} {Pc : Array Value → State → Prop} {Qc Qc' : Array Value → State → Outcome → State → Prop} {mc ms : Nat} {free : Addr → Prop} (h : Met l y ws rm Pc Qc mc ms free) (hq : ∀ a s o t, Qc a s o t → Qc' a s o t) : Met l y ws rm Pc Qc' mc ms free :=
  MetFree.mono h (fun _ _ h => h) (fun _ _ _ _ _ h => h) fun a s o t _ h => ⟨hq a s o t h.1, h.2⟩
theorem va_Qi.imp {S : Type} {post post' : Int32 → S → Prop} {B : S → State → Prop} {A : Nat → Prop} (h : ∀ r u, post r u → post' r u) : ∀ (a : Array Value) (s : State) (o : Outcome) (t : State), va_Qi post B A a s o t → va_Qi post' B A a s o t := fun _ _ _ _ ⟨⟨r, u, h1, h2, h3⟩, h4⟩ => ⟨⟨r, u, h1, h r u h2, h3⟩, h4⟩
theorem va_Qv.imp {S : Type} {post post' : S → Prop} {B : S → State → Prop} {A : Nat → Prop} (h : ∀ u, post u → post' u) : ∀ (a : Array Value) (s : State) (o : Outcome) (t : State), va_Qv post B A a s o t → va_Qv post' B A a s o t := fun _ _ _ _ ⟨⟨u, h1, h2, h3⟩, h4⟩ => ⟨⟨u, h1, h u h2, h3⟩, h4⟩
/-- the model's core by plain numbers: the town, how tender people are, how often they took streets -/
def mCore (g : Nat → Nat) (a : Nat → Nat → Int32) (t : TW) (td : Nat → Nat) (of : Nat → Nat → Nat) : Prop :=
  mTown g a t ∧ tOK t ∧ g 5 ≤ 1000000 ∧ (∀ p, p < 3 → a 8 (5 * p) = nI (td p) ∧ td p ≤ 9) ∧ ∀ p, p < 3 → ∀ s, s < tn t → a 9 (9 * p + s) = nI (of p s) ∧ of p s ≤ 5000
/-- what layWay leaves -/
def wayR (N : Net) (D : Nat → Nat) (fr to : Nat) (r : Int32) (o0 o1 : Nat → Int32) : Prop :=
  holds8 o0 D ∧ (D fr < 1000000000 → r = nI (N.wl D to fr) ∧ ∀ j, j < N.wl D to fr → o1 j = nI (N.fs D (N.cs D fr j))) ∧ (¬ D fr < 1000000000 → r = -1)
section
variable (l : Launch) (ω : OM) (g : Nat → Nat) (y : Nat → Int32) (a z : Nat → Nat → Int32) (kt : Int32) (hs : Int64)
theorem sX2_layAway (pn : Nat) (tdv : Nat) (to : Nat) (set : Int32) (hpn : pn < 3) (hto : to < 8) (htd : tdv ≤ 9) {t : TW} {td : Nat → Nat} {of : Nat → Nat → Nat} (hc : mCore g a t td of) :
    Met l yX2_layAway (ws_ yX2_layAway cX2_layAway 10 none) rmX2_layAway (va_Pc [.ref (ω.2.1 0 99), .int (nI pn), .int (nI tdv), .int (nI to), .int set] (fun U => mK ω U ∧ mH ω (g, y, a, z, kt, hs) U.heap)) (va_Qv (fun (u : MS) => ∃ (o0 : Nat → Int32), holds8 o0 ((netT t (g 5) tdv (of pn) set).ds 1000000000 to) ∧ u = (g, y, a, va_up z 11 o0, kt, hs)) (fun u t => mH ω u t.heap) ω.2.2.1) 0 0 ω.2.2.1 := by
  obtain ⟨h1, h2, h3, h4, h5⟩ := hc
  refine Met.weak (kX2_layAway l ω g y a z kt hs pn (nI tdv) to set hpn hto (h1.rows h2)) (va_Qv.imp ?_)
  rintro u ⟨o0, rfl, rfl⟩
  exact ⟨_, m_layAway h1 h2 hto htd h3 (h5 pn hpn) set, rfl⟩
theorem sX2_layWay (pn : Nat) (fr : Nat) (to : Nat) (set : Int32) (hpn : pn < 3) (hfr : fr < 8) (hto : to < 8) {t : TW} {td : Nat → Nat} {of : Nat → Nat → Nat} (hc : mCore g a t td of) :
    Met l yX2_layWay (ws_ yX2_layWay cX2_layWay 8 (some .int)) rmX2_layWay (va_Pc [.ref (ω.2.1 0 99), .int (nI pn), .int (nI fr), .int (nI to), .int set] (fun U => mK ω U ∧ mH ω (g, y, a, z, kt, hs) U.heap)) (va_Qi (fun (r : Int32) (u : MS) => ∃ (o0 : Nat → Int32) (o1 : Nat → Int32), wayR (netT t (g 5) (td pn) (of pn) set) ((netT t (g 5) (td pn) (of pn) set).ds 1000000000 to) fr to r o0 o1 ∧ u = (g, y, a, va_up (va_up z 11 o0) 12 o1, kt, hs)) (fun u t => mH ω u t.heap) ω.2.2.1) 0 0 ω.2.2.1 := by
  obtain ⟨h1, h2, h3, h4, h5⟩ := hc
  have nok := netT_ok h2 (g 5) (h4 pn hpn).2 (fun s hs => (h5 pn hpn s hs).2) set
  have hz : holds8 (fX2_layAway g a z pn (a 8 (5 * pn)) to set) ((netT t (g 5) (td pn) (of pn) set).ds 1000000000 to) := by
    rw [(h4 pn hpn).1]
    exact m_layAway h1 h2 hto (h4 pn hpn).2 h3 (h5 pn hpn) set
  have hD := Net.ds_inv (netT t (g 5) (td pn) (of pn) set) nok (F := 1000000000) (by decide) hto
  have hfx := Net.ds_fix (netT t (g 5) (td pn) (of pn) set) nok (F := 1000000000) (by decide) hto
  have hw : mWayOK g a z pn fr to set (fX2_layAway g a z pn (a 8 (5 * pn)) to set) := m_wayOK h1 h2 hfr hto (h4 pn hpn).2 (h4 pn hpn).1 h3 (h5 pn hpn) hz hD hfx
  refine Met.weak (kX2_layWay l ω g y a z kt hs pn fr to set hpn hfr hto (h1.rows h2) hw) (va_Qi.imp ?_)
  rintro r u ⟨o0, o1, he, rfl⟩
  refine ⟨o0, o1, ?_, rfl⟩
  unfold fX2_layWay at he
  generalize hD' : (netT t (g 5) (td pn) (of pn) set).ds 1000000000 to = D at hz hD hfx ⊢
  generalize fX2_layAway g a z pn (a 8 (5 * pn)) to set = aw at hz he hw
  have hfar := hD.far fr
  have hiff : aw fr < nI 1000000000 ↔ D fr < 1000000000 := by
    rw [hz fr hfr]
    exact nI_ltI (by omega) (by omega)
  by_cases hf : D fr < 1000000000
  · rw [if_pos (hiff.mpr hf)] at he
    obtain ⟨w1, w2, w3⟩ := Net.way nok hto hD hfx hfr hf
    have key := m_way_it (z := z) h1 h2 hfr hto (h4 pn hpn).2 (h4 pn hpn).1 h3 (h5 pn hpn) hz hD hfx hf 8
    rw [if_neg (by omega)] at key
    rw [key] at he
    dsimp only at he
    simp only [Prod.mk.injEq] at he
    obtain ⟨e1, e2, e3⟩ := he
    rw [e2, e1, e3]
    refine ⟨hz, fun _ => ⟨Eq.refl _, ?_⟩, fun q => absurd hf q⟩
    exact wrow_at (netT t (g 5) (td pn) (of pn) set) D fr (z 12) ((netT t (g 5) (td pn) (of pn) set).wl D to fr)
  · rw [if_neg (fun q => hf (hiff.mp q))] at he
    injection he with e1 e2
    injection e2 with e2 e3
    subst e1 e2 e3
    exact ⟨hz, fun q => absurd q hf, fun _ => rfl⟩
end
