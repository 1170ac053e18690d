/-! THE LAW, 5: gaps -/
set_option maxRecDepth 100000
theorem tb_two (a x : Nat) : (1 <<< a : Nat).testBit x = decide (x = a) := by
  rw [Nat.one_shiftLeft, Nat.testBit_two_pow]
  by_cases h : a = x
  · subst h; simp
  · have : ¬ x = a := fun z => h z.symm
    simp [h, this]
theorem reach_bst {t : TW} (ok : tOK t) (set : Int32) {i n : Nat} (hi : i < tn t) (hn : n < 256) : ∃ n', n' < 256 ∧ fX1_reach_b17 t set i (nI n) = nI n' ∧ ∀ x, n'.testBit x = bst t (inB set) i (fun x => n.testBit x) x := by
  obtain ⟨-, ha, hb, -⟩ := ok.2.2 i hi
  unfold fX1_reach_b17
  have ea : fX0_isIn (nI n) (nI (ta t i)) = 0 ↔ n.testBit (ta t i) = false := by rw [isIn_bit n (by omega) _ (show ta t i < 9 by omega)]
  have eb : fX0_isIn (nI n) (nI (tb t i)) = 0 ↔ n.testBit (tb t i) = false := by rw [isIn_bit n (by omega) _ (show tb t i < 9 by omega)]
  have z0 : nI n ||| nI 0 = nI n := by rw [show (nI 0 : Int32) = 0 from rfl, Int32.or_zero]
  rcases isIn_cases set (nI i) with ⟨q1, q2⟩ | ⟨q1, q2⟩
  · have hI : inB set i = true := by unfold inB; exact decide_eq_true q2
    rw [q1, if_neg (show ¬ nI 1 = 0 by decide)]
    by_cases h : n.testBit (ta t i) = false ∧ n.testBit (tb t i) = false
    · rw [if_pos (ea.mpr h.1), if_pos (eb.mpr h.2), if_pos (show nI 0 = 0 from rfl)]
      refine ⟨n, hn, z0, fun x => ?_⟩
      unfold bst
      simp only [hI, h.1, h.2]
      simp
    · have hor : (n.testBit (ta t i) || n.testBit (tb t i)) = true := by
        cases z1 : n.testBit (ta t i) <;> cases z2 : n.testBit (tb t i) <;> simp_all
      have e1 : (if (if fX0_isIn (nI n) (nI (ta t i)) = 0 then if fX0_isIn (nI n) (nI (tb t i)) = 0 then nI 0 else nI 1 else nI 1) = 0 then nI n ||| nI 0 else nI n ||| (nI 1 <<< (nI (ta t i) &&& 31) ||| nI 1 <<< (nI (tb t i) &&& 31))) = nI n ||| (nI 1 <<< (nI (ta t i) &&& 31) ||| nI 1 <<< (nI (tb t i) &&& 31)) := by
        refine if_neg ?_
        by_cases z1 : n.testBit (ta t i) = false
        · rw [if_pos (ea.mpr z1), if_neg (fun z2 => h ⟨z1, eb.mp z2⟩)]; decide
        · rw [if_neg (fun z => z1 (ea.mp z))]; decide
      refine ⟨n ||| (1 <<< ta t i ||| 1 <<< tb t i), ?_, e1.trans (bit_or n hn _ ha _ hb), fun x => ?_⟩
      · have h1 : 1 <<< ta t i ||| 1 <<< tb t i < 2 ^ 8 := Nat.or_lt_two_pow (by rw [Nat.one_shiftLeft]; exact Nat.pow_lt_pow_right (by omega) ha) (by rw [Nat.one_shiftLeft]; exact Nat.pow_lt_pow_right (by omega) hb)
        exact Nat.or_lt_two_pow (n := 8) hn h1
      · unfold bst
        rw [Nat.testBit_or, Nat.testBit_or, tb_two, tb_two, hI, hor]
        rfl
  · have hI : inB set i = false := by unfold inB; exact decide_eq_false q2
    rw [q1, if_pos (show nI 0 = 0 from rfl), if_pos (show nI 0 = 0 from rfl)]
    refine ⟨n, hn, z0, fun x => ?_⟩
    unfold bst
    rw [hI]
    simp
theorem itE {S : Type} {f : Nat → Int32 → Int32} {h : Nat → S → S} {P : Int32 → S → Prop} {n : Nat} (e : ∀ i u v, i < n → P u v → P (f i u) (h i v)) : ∀ k, k ≤ n → ∀ u v, P u v → P (it f k u) (it h k v)
  | 0, _, _, _, p => p
  | k + 1, hk, u, v, p => e k _ _ (by omega) (itE e k (by omega) u v p)
def bits8 (S : Int32) (B : Nat → Bool) : Prop := ∃ n, n < 256 ∧ S = nI n ∧ ∀ x, n.testBit x = B x
theorem reach_bits {t : TW} (ok : tOK t) (set : Int32) {c : Nat} (hc : c < 8) : bits8 (fX1_reach t (nI c) set) (rB t (inB set) c) := by
  unfold fX1_reach rB brs
  refine itE (P := bits8) (n := 8) (fun i u v _ p => ?_) 8 (Nat.le_refl _) _ _ ⟨1 <<< c, (is8_one c hc).2, (is8_one c hc).1, fun x => tb_two c x⟩
  unfold fX1_reach_b7 brd
  refine itE (P := bits8) (n := tn t) (fun i u v hi p => ?_) (tn t) (Nat.le_refl _) _ _ p
  obtain ⟨n, hn, rfl, hb⟩ := p
  obtain ⟨n', h1, h2, h3⟩ := reach_bst ok set hi hn
  refine ⟨n', h1, h2, fun x => ?_⟩
  rw [h3 x, show (fun x => n.testBit x) = v from funext hb]
theorem sum_sym (M : Nat → Nat → Bool) : ∀ n, (∀ a, a < n → ∀ b, b < n → M a b = M b a) → (∀ a, a < n → M a a = false) → sumTo (fun a => cnt (M a) n) n = 2 * sumTo (fun a => cnt (M a) a) n := by
  intro n
  induction n with
  | zero => intro _ _; rfl
  | succ n ih =>
    intro hs hi
    have h0 := ih (fun a ha b hb => hs a (by omega) b (by omega)) (fun a ha => hi a (by omega))
    have split : ∀ k, k ≤ n → sumTo (fun a => cnt (M a) (n + 1)) k = sumTo (fun a => cnt (M a) n) k + cnt (fun a => M a n) k := by
      intro k
      induction k with
      | zero => intro _; rfl
      | succ k ih2 =>
        intro hk
        have := ih2 (by omega)
        show sumTo (fun a => cnt (M a) (n + 1)) k + (cnt (M k) n + (if M k n = true then 1 else 0)) = (sumTo (fun a => cnt (M a) n) k + cnt (M k) n) + (cnt (fun a => M a n) k + (if M k n = true then 1 else 0))
        omega
    have h1 := split n (Nat.le_refl _)
    have h2 : cnt (fun a => M a n) n = cnt (M n) n := cnt_congr n (fun x hx => hs x (by omega) n (by omega))
    have h3 : (if M n n = true then 1 else 0) = 0 := by rw [hi n (by omega)]; rfl
    show sumTo (fun a => cnt (M a) (n + 1)) n + (cnt (M n) n + (if M n n = true then 1 else 0)) = 2 * (sumTo (fun a => cnt (M a) a) n + cnt (M n) n)
    omega
theorem half_nI : ∀ k, k < 100 → nI (2 * k) / nI 2 = nI k := by decide +kernel
theorem sumTo_le8 (f : Nat → Nat) : ∀ n, (∀ i, i < n → f i ≤ 8) → sumTo f n ≤ 8 * n
  | 0, _ => Nat.le_refl _
  | n + 1, h => by
    have := sumTo_le8 f n (fun i hi => h i (by omega))
    have := h n (by omega)
    show sumTo f n + f n ≤ 8 * (n + 1)
    omega
/-- two corners that are not joined -/
def gM (t : TW) (set : Int32) (u : Nat) (a b : Nat) : Bool := u.testBit a && (u.testBit b && !(rB t (inB set) a b))
theorem isIn_t {S : Int32} {n : Nat} (hn : n < 256) (hS : S = nI n) {k : Nat} (hk : k < 8) : (((S >>> (nI k &&& 31)) &&& nI 1) = nI 1 ↔ n.testBit k = true) := by
  subst hS
  have e := isIn_bit n (by omega) k (by omega)
  rcases isIn_cases (nI n) (nI k) with ⟨q1, q2⟩ | ⟨q1, q2⟩
  · rw [q1] at e
    refine ⟨fun _ => ?_, fun _ => q2⟩
    cases z : n.testBit k with
    | true => rfl
    | false => rw [z] at e; exact absurd (e.mpr rfl) (by decide)
  · rw [q1] at e
    have := e.mp rfl
    refine ⟨fun z => absurd z q2, fun z => ?_⟩
    rw [this] at z; cases z
theorem bit01 : ∀ n, n < 256 → ∀ k, k < 8 → (((nI n >>> (nI k &&& 31)) &&& nI 1) = 0 ↔ n.testBit k = false) := by decide +kernel
theorem l_gaps {g : Nat → Nat} {a : Nat → Nat → Int32} {t : TW} (ok : tOK t) (ht : mTown g a t) (set : Int32) : fX2_gapsBy g a set = fX0_gapsBy t set := by
  obtain ⟨eu, u, hu, hue⟩ := l_used ok ht
  have hR : ∀ c, c < 8 → ∃ n, n < 256 ∧ fX1_reach t (nI c) set = nI n ∧ ∀ x, n.testBit x = rB t (inB set) c x := fun c hc => reach_bits ok set hc
  -- the model's count
  have hm : fX2_gapsBy g a set = nI (sumTo (fun a => cnt (gM t set u a) a) 8) := by
    unfold fX2_gapsBy
    rw [eu, hue]
    refine itE (S := Nat) (P := fun S m => S = nI m) (h := fun i m => m + cnt (gM t set u i) i) (n := 8) (fun c S m hc p => ?_) 8 (Nat.le_refl _) (nI 0) 0 rfl
    subst p
    unfold fX2_gapsBy_b10
    rw [(l_reach ok ht c hc set).1]
    obtain ⟨n, hn, hne, hb⟩ := hR c hc
    rw [hne]
    have key : ∀ k, k ≤ c → it (fX2_gapsBy_b29 (nI u) c (nI n)) k (nI m) = nI (m + cnt (gM t set u c) k) := by
      intro k
      induction k with
      | zero => intro _; rfl
      | succ k ih =>
        intro hk
        show fX2_gapsBy_b29 (nI u) c (nI n) k (it (fX2_gapsBy_b29 (nI u) c (nI n)) k (nI m)) = _
        rw [ih (by omega)]
        unfold fX2_gapsBy_b29
        have e1 := isIn_t hu rfl hc
        have e2 := isIn_t hu rfl (show k < 8 by omega)
        have e3 := bit01 n hn k (by omega)
        have hg : cnt (gM t set u c) (k + 1) = cnt (gM t set u c) k + (if gM t set u c k = true then 1 else 0) := rfl
        rw [hg]
        unfold gM
        rw [← hb k]
        by_cases z1 : u.testBit c = true
        · rw [if_pos (e1.mpr z1), z1]
          by_cases z2 : u.testBit k = true
          · rw [if_pos (e2.mpr z2), if_neg (show ¬ nI 1 = 0 by decide), z2]
            by_cases z3 : n.testBit k = false
            · rw [if_pos (e3.mpr z3), z3, nI_add]; rfl
            · rw [if_neg (fun q => z3 (e3.mp q)), nI_add]
              have : n.testBit k = true := by cases h : n.testBit k <;> simp_all
              rw [this]; rfl
          · rw [if_neg (fun q => z2 (e2.mp q)), if_pos (show nI 0 = 0 from rfl), nI_add]
            have : u.testBit k = false := by cases h : u.testBit k <;> simp_all
            rw [this]; rfl
        · rw [if_neg (fun q => z1 (e1.mp q)), if_pos (show nI 0 = 0 from rfl), nI_add]
          have : u.testBit c = false := by cases h : u.testBit c <;> simp_all
          rw [this]; rfl
    exact key c (Nat.le_refl _)
  have hx : it (fX0_gapsBy_b10 t set (fX0_cornersUsed t)) 8 (nI 0) = nI (sumTo (fun a => cnt (gM t set u a) 8) 8) := by
    rw [hue]
    refine itE (S := Nat) (P := fun S m => S = nI m) (h := fun i m => m + cnt (gM t set u i) 8) (n := 8) (fun c S m hc p => ?_) 8 (Nat.le_refl _) (nI 0) 0 rfl
    subst p
    unfold fX0_gapsBy_b10
    obtain ⟨n, hn, hne, hb⟩ := hR c hc
    have ec : fX0_isIn (nI u) (nI c) = 0 ↔ u.testBit c = false := by rw [isIn_bit u (by omega) c (by omega)]
    rw [hne]
    by_cases z1 : u.testBit c = false
    · rw [if_pos (ec.mpr z1), (ones_cnt 0 (by omega)).2, nI_add]
      have : cnt (gM t set u c) 8 = 0 := by
        have := cnt_congr (P := gM t set u c) (Q := fun i => (0 : Nat).testBit i) 8 (fun x _ => by unfold gM; rw [z1]; simp)
        rw [this]; rfl
      rw [this]; rfl
    · have z1 : u.testBit c = true := by cases h : u.testBit c <;> simp_all
      rw [if_neg (fun z => by rw [ec.mp z] at z1; cases z1), missed_eq hu hn]
      have hw : u &&& (255 ^^^ n) < 256 := Nat.lt_of_le_of_lt Nat.and_le_left hu
      rw [(ones_cnt _ (by omega)).2, cnt8 _ hw, nI_add]
      have : cnt (fun i => (u &&& (255 ^^^ n)).testBit i) 8 = cnt (gM t set u c) 8 := cnt_congr 8 (fun x hx => by
        unfold gM
        rw [Nat.testBit_and, Nat.testBit_xor, z1, ← hb x]
        have e2 : (255 : Nat).testBit x = true := by
          rw [show (255 : Nat) = 2 ^ 8 - 1 from rfl, Nat.testBit_two_pow_sub_one]
          simp [hx]
        rw [e2]
        simp)
      rw [this]
  have hs := sum_sym (gM t set u) 8 (fun x hx b hb => by
      unfold gM
      have e : rB t (inB set) x b = rB t (inB set) b x := by
        cases h1 : rB t (inB set) x b with
        | true => exact (rB_sym ok _ hx hb h1).symm
        | false =>
          cases h2 : rB t (inB set) b x with
          | true => rw [rB_sym ok _ hb hx h2] at h1; cases h1
          | false => rfl
      rw [e]
      cases u.testBit x <;> cases u.testBit b <;> rfl) (fun x hx => by unfold gM; rw [rB_self]; simp)
  have hle := sumTo_le8 (fun a => cnt (gM t set u a) a) 8 (fun i hi => Nat.le_trans (cnt_le _ i) (by omega))
  unfold fX0_gapsBy
  rw [hx, hs, half_nI _ (by omega), hm]
theorem l_next {g : Nat → Nat} {a : Nat → Nat → Int32} {ax : Nat → Nat → Nat → Int32} {t : TW} (ok : tOK t) (ht : mTown g a t) {d : Nat} (hk : a 10 (3 * d + 1) = ax (0 + 6) 7 d) : fX2_learnNextOf g a d = fX0_learnNext ax t d := by
  unfold fX2_learnNextOf fX0_learnNext
  rw [ht.1, hk, l_gaps ok ht]
  congr 1
  refine (it_cong (P := fun _ => True) (n := tn t) (fun i S _ _ => ⟨?_, trivial⟩) (tn t) (Nat.le_refl _) _ trivial).1
  unfold fX2_learnNextOf_b23 fX0_learnNext_b19
  rw [hk, l_gaps ok ht]
  by_cases h : S.1 ≤ fX0_gapsBy t (ax (0 + 6) 7 d ||| nI 1 <<< (nI i &&& 31))
  · rw [if_pos h, if_pos h, if_pos h]
    unfold jmin
    rw [if_neg (Int32.not_lt.mpr h)]
  · rw [if_neg h, if_neg h, if_neg h]
    unfold jmin
    rw [if_pos (Int32.not_le.mp h)]
