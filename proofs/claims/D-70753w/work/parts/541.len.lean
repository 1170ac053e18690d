/-! LENGTHS: how little it hurts to come to a corner by just so much; both sides' tables by one table of numbers -/
def ltS (t : TW) (hu : Nat → Nat) (len i : Nat) (D : Nat → Nat) : Nat → Nat :=
  if tl t i ≤ len then rl (rl D (8 * len + ta t i) (8 * (len - tl t i) + tb t i) (hu i)) (8 * len + tb t i) (8 * (len - tl t i) + ta t i) (hu i) else D
def lT0 (F fr : Nat) : Nat → Nat := nu (fun _ => F) fr 0
def lT (t : TW) (hu : Nat → Nat) (F fr : Nat) : Nat → Nat := it (fun l D => it (ltS t hu (l + 1)) (tn t) D) 81 (lT0 F fr)
def holdsN (n : Nat) (S : Nat → Int32) (D : Nat → Nat) : Prop := ∀ k, k < n → S k = nI (D k)
theorem holdsN.up {n : Nat} {S : Nat → Int32} {D : Nat → Nat} (h : holdsN n S D) {k v : Nat} {w : Int32} (hw : w = nI v) : holdsN n (upd S k w) (nu D k v) := by
  intro x hx
  unfold upd nu
  split
  · exact hw
  · exact h x hx
theorem holdsN.relax {n : Nat} {S : Nat → Int32} {D : Nat → Nat} (h : holdsN n S D) {x y c : Nat} {w : Int32} (hw : w = nI (min (D x) (D y + c))) : holdsN n (upd S x w) (rl D x y c) := h.up hw
theorem rl_far {D : Nat → Nat} {F : Nat} (h : ∀ k, D k ≤ F) (x y c : Nat) : ∀ k, rl D x y c k ≤ F := fun k => Nat.le_trans (rl_le D x y c k) (h k)
theorem ltS_far {t : TW} {hu : Nat → Nat} {len i : Nat} {D : Nat → Nat} {F : Nat} (h : ∀ k, D k ≤ F) : ∀ k, ltS t hu len i D k ≤ F := by
  unfold ltS
  split
  · exact rl_far (rl_far h _ _ _) _ _ _
  · exact h
theorem lT0_far (F fr : Nat) : ∀ k, lT0 F fr k ≤ F := by
  intro k
  show (if k = fr then 0 else F) ≤ F
  split <;> omega
theorem fill_at {c : Int32} {h : Nat → Int32} : ∀ n k, k < n → it (fun i S => upd S i c) n h k = c := by
  intro n
  induction n with
  | zero => intro k hk; omega
  | succ n ih =>
    intro k hk
    rw [it_succ]
    unfold upd
    by_cases q : k = n
    · rw [if_pos q]
    · rw [if_neg q]; exact ih k (by omega)
theorem holdsN_init {z : Nat → Int32} {F fr : Nat} {b : Nat → (Nat → Int32) → Nat → Int32} (hb : b = fun i S => upd S i (nI F)) : holdsN 656 (upd (it b 656 z) fr (nI 0)) (lT0 F fr) := by
  rw [hb]
  exact holdsN.up (D := fun _ => F) (fun k hk => fill_at 656 k hk) rfl
/-- any table made by steps that hold -/
theorem holdsN_its {n : Nat} {b : Nat → (Nat → Int32) → Nat → Int32} {d : Nat → (Nat → Nat) → Nat → Nat} {F : Nat} {N : Nat} (hb : ∀ i S D, i < n → holdsN N S D → (∀ k, D k ≤ F) → holdsN N (b i S) (d i D) ∧ ∀ k, d i D k ≤ F) : ∀ m, m ≤ n → ∀ {S : Nat → Int32} {D : Nat → Nat}, holdsN N S D → (∀ k, D k ≤ F) → holdsN N (it b m S) (it d m D) ∧ ∀ k, it d m D k ≤ F := by
  intro m
  induction m with
  | zero => intro _ S D h1 h2; exact ⟨h1, h2⟩
  | succ m ih =>
    intro hm S D h1 h2
    obtain ⟨q1, q2⟩ := ih (by omega) h1 h2
    exact hb m _ _ (by omega) q1 q2
theorem lT_holds {t : TW} {hu : Nat → Nat} {F fr : Nat} {z : Nat → Int32} {b0 b2 : Nat → (Nat → Int32) → Nat → Int32} {b1 : Nat → Nat → (Nat → Int32) → Nat → Int32} (h0 : b0 = fun i S => upd S i (nI F)) (h2 : ∀ l S, b2 l S = it (b1 l) (tn t) S) (h1 : ∀ l i S D, l < 81 → i < tn t → holdsN 656 S D → (∀ k, D k ≤ F) → holdsN 656 (b1 l i S) (ltS t hu (l + 1) i D)) : holdsN 656 (it b2 81 (upd (it b0 656 z) fr (nI 0))) (lT t hu F fr) := by
  refine (holdsN_its (n := 81) (b := b2) (d := fun l D => it (ltS t hu (l + 1)) (tn t) D) (F := F) (N := 656) (fun l S D hl q1 q2 => ?_) 81 (Nat.le_refl _) (holdsN_init h0) (lT0_far F fr)).1
  rw [h2]
  exact holdsN_its (n := tn t) (F := F) (N := 656) (fun i S D hi q1 q2 => ⟨h1 l i S D hl hi q1 q2, ltS_far q2⟩) (tn t) (Nat.le_refl _) q1 q2
/-- two words for far -/
def lTwo (F G : Nat) (D E : Nat → Nat) : Prop := ∀ k, k < 656 → (D k = F ∧ E k = G) ∨ (D k = E k ∧ D k ≤ 5009 * (k / 8))
theorem lTwo.relax {F G : Nat} {D E : Nat → Nat} (h : lTwo F G D E) (hF : 5009 * 82 ≤ F) (hFG : F ≤ G) {x y c : Nat} (hx : x < 656) (hy : y < 656) (hxy : y / 8 + 1 ≤ x / 8) (hc : c ≤ 5009) : lTwo F G (rl D x y c) (rl E x y c) := by
  intro k hk
  by_cases q : k = x
  · subst q
    rw [rl_self, rl_self]
    have hk8 : k / 8 ≤ 81 := by omega
    rcases h k hk with ⟨a1, a2⟩ | ⟨a1, a2⟩ <;> rcases h y hy with ⟨b1, b2⟩ | ⟨b1, b2⟩
    · left; omega
    · right; omega
    · right; omega
    · right; omega
  · rw [rl_other _ _ _ q, rl_other _ _ _ q]
    exact h k hk
theorem lTwo.step {F G : Nat} {D E : Nat → Nat} (h : lTwo F G D E) (hF : 5009 * 82 ≤ F) (hFG : F ≤ G) {t : TW} (ok : tOK t) {hu : Nat → Nat} (hhu : ∀ i, i < tn t → hu i ≤ 5009) {len i : Nat} (hl : len ≤ 81) (hi : i < tn t) : lTwo F G (ltS t hu len i D) (ltS t hu len i E) := by
  obtain ⟨-, hA, hB, -, hL, -⟩ := ok.2.2 i hi
  have hc := hhu i hi
  unfold ltS
  split
  · exact (h.relax hF hFG (by omega) (by omega) (by omega) hc).relax hF hFG (by omega) (by omega) (by omega) hc
  · exact h
theorem lT_two {t : TW} (ok : tOK t) {hu : Nat → Nat} (hhu : ∀ i, i < tn t → hu i ≤ 5009) {F G fr : Nat} (hF : 5009 * 82 ≤ F) (hFG : F ≤ G) : lTwo F G (lT t hu F fr) (lT t hu G fr) := by
  have h0 : lTwo F G (lT0 F fr) (lT0 G fr) := by
    intro k hk
    unfold lT0 nu
    split
    · right; exact ⟨rfl, Nat.zero_le _⟩
    · left; exact ⟨rfl, rfl⟩
  have h1 : ∀ m, m ≤ 81 → lTwo F G (it (fun l D => it (ltS t hu (l + 1)) (tn t) D) m (lT0 F fr)) (it (fun l D => it (ltS t hu (l + 1)) (tn t) D) m (lT0 G fr)) := by
    intro m
    induction m with
    | zero => intro _; exact h0
    | succ m ih =>
      intro hm
      have q := ih (by omega)
      rw [it_succ, it_succ]
      generalize it (fun l D => it (ltS t hu (l + 1)) (tn t) D) m (lT0 F fr) = D at q
      generalize it (fun l D => it (ltS t hu (l + 1)) (tn t) D) m (lT0 G fr) = E at q
      have h2 : ∀ j, j ≤ tn t → lTwo F G (it (ltS t hu (m + 1)) j D) (it (ltS t hu (m + 1)) j E) := by
        intro j
        induction j with
        | zero => intro _; exact q
        | succ j ih2 => intro hj; rw [it_succ, it_succ]; exact (ih2 (by omega)).step hF hFG ok hhu (by omega) (by omega)
      exact h2 (tn t) (Nat.le_refl _)
  exact h1 81 (Nat.le_refl _)
/-- how little it hurts by just so much (10^9: there is no way); the same where far is 2^28 -/
def cll (t : TW) (dy td : Nat) (of : Nat → Nat) (fr k : Nat) : Nat := lT t (huN t dy td of) 1000000000 fr k
def clF (t : TW) (dy td : Nat) (of : Nat → Nat) (fr k : Nat) : Nat := if cll t dy td of fr k < 1000000000 then cll t dy td of fr k else 268435456
theorem huN_le {t : TW} {dy td : Nat} {of : Nat → Nat} (htd : td ≤ 9) (hof : ∀ i, i < tn t → of i ≤ 5000) : ∀ i, i < tn t → huN t dy td of i ≤ 5009 := fun i hi => hurtN_le htd (hof i hi)
theorem cll_far (t : TW) (dy td : Nat) (of : Nat → Nat) (fr k : Nat) : cll t dy td of fr k ≤ 1000000000 := by
  have : ∀ (m : Nat) (D : Nat → Nat), (∀ k, D k ≤ 1000000000) → ∀ k, it (fun l D => it (ltS t (huN t dy td of) (l + 1)) (tn t) D) m D k ≤ 1000000000 := by
    intro m
    induction m with
    | zero => intro D h k; exact h k
    | succ m ih =>
      intro D h
      rw [it_succ]
      have q := ih D h
      generalize it (fun l D => it (ltS t (huN t dy td of) (l + 1)) (tn t) D) m D = E at q
      have q2 : ∀ j, ∀ k, it (ltS t (huN t dy td of) (m + 1)) j E k ≤ 1000000000 := by
        intro j
        induction j with
        | zero => exact q
        | succ j ih2 => rw [it_succ]; exact ltS_far ih2
      exact q2 (tn t)
  exact this 81 _ (lT0_far _ _) k
theorem clF_eq {t : TW} (ok : tOK t) {dy td : Nat} {of : Nat → Nat} (htd : td ≤ 9) (hof : ∀ i, i < tn t → of i ≤ 5000) (fr : Nat) {k : Nat} (hk : k < 656) : lT t (huN t dy td of) 268435456 fr k = clF t dy td of fr k := by
  unfold clF cll
  rcases lT_two ok (huN_le (dy := dy) htd hof) (F := 268435456) (G := 1000000000) (fr := fr) (by decide) (by decide) k hk with ⟨a, b⟩ | ⟨a, b⟩
  · rw [if_neg (by omega), a]
  · have : k / 8 ≤ 81 := by omega
    rw [if_pos (by omega), a]
theorem clF_far {t : TW} (ok : tOK t) {dy td : Nat} {of : Nat → Nat} (htd : td ≤ 9) (hof : ∀ i, i < tn t → of i ≤ 5000) (fr : Nat) {k : Nat} (hk : k < 656) : clF t dy td of fr k ≤ 268435456 ∧ (cll t dy td of fr k < 1000000000 → clF t dy td of fr k < 268435456) := by
  unfold clF cll
  rcases lT_two ok (huN_le (dy := dy) htd hof) (F := 268435456) (G := 1000000000) (fr := fr) (by decide) (by decide) k hk with ⟨a, b⟩ | ⟨a, b⟩
  · rw [if_neg (by omega)]; omega
  · have : k / 8 ≤ 81 := by omega
    rw [if_pos (by omega)]; omega
theorem m_minif {p q : Nat} (hp : p < 2 ^ 31) (hq : q < 2 ^ 31) (S : Nat → Int32) (x : Nat) : (if nI p ≤ nI q then upd S x (nI p) else upd S x (nI q)) = upd S x (nI (min p q)) := by
  rw [upd_if, m_min hp hq]
/-- the model's table -/
theorem m_hurtsOf {g : Nat → Nat} {a : Nat → Nat → Int32} {t : TW} {td : Nat → Nat} {of : Nat → Nat → Nat} (hc : mCore g a t td of) {pn i : Nat} (hpn : pn < 3) (hi : i < tn t) : fX2_hurtsOf g a pn i = nI (huN t (g 5) (td pn) (of pn) i) := by
  show fX2_hurtsBy g a pn (a 8 (5 * pn)) i = _
  rw [(hc.2.2.2.1 pn hpn).1, m_hurtsBy hc.1 hc.2.1 hi (hc.2.2.2.1 pn hpn).2 hc.2.2.1 (hc.2.2.2.2 pn hpn i hi).1]
  rfl
theorem m_layLittle {g : Nat → Nat} {a z : Nat → Nat → Int32} {t : TW} {td : Nat → Nat} {of : Nat → Nat → Nat} (hc : mCore g a t td of) {pn fr : Nat} (hpn : pn < 3) : holdsN 656 (fX2_layLittle g a z pn fr) (lT t (huN t (g 5) (td pn) (of pn)) 1000000000 fr) := by
  refine lT_holds (b0 := fX2_layLittle_b2) (b1 := fX2_layLittle_b41 g a pn) rfl (fun l S => by rw [← hc.1.1]; rfl) ?_
  intro l i S D hl hi hS hD
  obtain ⟨-, hA, hB, -, hL1, hL9⟩ := hc.2.1.2.2 i hi
  obtain ⟨-, e1, e2, e3⟩ := hc.1.2 i hi
  have hh := m_hurtsOf hc hpn hi
  have hu9 := huN_le (t := t) (dy := g 5) (hc.2.2.2.1 pn hpn).2 (fun j hj => (hc.2.2.2.2 pn hpn j hj).2) i hi
  have hn9 := hc.2.1.1
  have s0 : ∀ (i68 x y : Nat) (S : Nat → Int32) (D : Nat → Nat), holdsN 656 S D → (∀ k, D k ≤ 1000000000) → x < 8 → y < 8 → toN (a 7 (4 * i + (i68 + 1))) = x → toN (a 7 (4 * i + 3 - (i68 + 1))) = y → tl t i ≤ l + 1 → ∃ S', fX2_layLittle_b68 g a pn l i i68 (S, false) = (S', false) ∧ holdsN 656 S' (rl D (8 * (l + 1) + x) (8 * (l + 1 - tl t i) + y) (huN t (g 5) (td pn) (of pn) i)) := by
    intro i68 x y S D hS hD hx hy ex ey hlt
    unfold fX2_layLittle_b68
    dsimp only
    rw [if_neg Bool.false_ne_true, e3, toN_nI (by omega), ex, ey, if_neg (by rw [nI_sub hlt (by omega)]; exact nI_pos (by omega)), hh]
    have d1 := hD (8 * (l + 1) + x)
    have d2 := hD (8 * (l + 1 - tl t i) + y)
    refine ⟨upd S (8 * (l + 1) + x) (nI (min (D (8 * (l + 1) + x)) (D (8 * (l + 1 - tl t i) + y) + huN t (g 5) (td pn) (of pn) i))), ?_, hS.relax rfl⟩
    simp only [hS (8 * (l + 1) + x) (by omega), hS (8 * (l + 1 - tl t i) + y) (by omega), nI_add]
    rw [← m_minif (by omega) (by omega)]
    split <;> rfl
  unfold fX2_layLittle_b41 ltS
  by_cases hlt : tl t i ≤ l + 1
  · rw [if_pos hlt]
    obtain ⟨S1, q1, q2⟩ := s0 0 (ta t i) (tb t i) S D hS hD hA hB (by show toN (a 7 (4 * i + 1)) = _; rw [e1, toN_nI (by omega)]) (by show toN (a 7 (4 * i + 2)) = _; rw [e2, toN_nI (by omega)]) hlt
    obtain ⟨S2, q3, q4⟩ := s0 1 (tb t i) (ta t i) S1 _ q2 (rl_far hD _ _ _) hB hA (by show toN (a 7 (4 * i + 2)) = _; rw [e2, toN_nI (by omega)]) (by show toN (a 7 (4 * i + 1)) = _; rw [e1, toN_nI (by omega)]) hlt
    rw [it_succ, it_succ, it_zero, q1, q3]
    exact q4
  · rw [if_neg hlt, it_succ, it_succ, it_zero]
    have s1 : fX2_layLittle_b68 g a pn l i 0 (S, false) = (S, true) := by
      unfold fX2_layLittle_b68
      dsimp only
      rw [if_neg Bool.false_ne_true, e3, toN_nI (by omega), if_pos (Int32.not_le.mp (nI_subneg (by omega) (by omega)))]
    rw [s1]
    exact hS
theorem kX2_layLittleS (l : Launch) (ω : OM) (g : Nat → Nat) (y : Nat → Int32) (a z : Nat → Nat → Int32) (kt : Int32) (hs : Int64) (t : TW) (td : Nat → Nat) (of : Nat → Nat → Nat) (hc : mCore g a t td of) (pn fr : Nat) (hpn : pn < 3) (hfr : fr < 8) :
    Met l yX2_layLittle (ws_ yX2_layLittle cX2_layLittle 9 none) rmX2_layLittle (va_Pc [.ref (ω.2.1 0 99), .int (nI pn), .int (nI fr)] (fun U => mK ω U ∧ mH ω (g, y, a, z, kt, hs) U.heap)) (va_Qv (fun (u : MS) => ∃ (q0 : Nat → Int32), (∀ k, k < 656 → q0 k = nI (cll t (g 5) (td pn) (of pn) fr k)) ∧ u = (g, y, a, va_up z 13 q0, kt, hs)) (fun u t => mH ω u t.heap) ω.2.2.1) 0 0 ω.2.2.1 := by
  refine Met.weak (kX2_layLittle l ω g y a z kt hs pn fr hpn hfr hc.rows) (va_Qv.imp ?_)
  rintro u ⟨o0, rfl, rfl⟩
  exact ⟨_, m_layLittle hc hpn, rfl⟩
theorem hdX2_layLittleS : yX2_layLittle.cls = RX2 ∧ yX2_layLittle.cls ≠ "java/lang/invoke/MethodHandle" ∧ yX2_layLittle.cls ≠ "java/lang/invoke/VarHandle" ∧ (parseMethodDescriptor yX2_layLittle.desc).map (fun d => d.parameters.length) = some 2 := hdX2_layLittle
