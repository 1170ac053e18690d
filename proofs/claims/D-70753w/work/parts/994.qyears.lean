/-! THE LAW, 14: years -/
set_option maxRecDepth 100000
section NETC
variable {t : TW} {dy td : Nat} {of of' : Nat → Nat} {set : Int32}
theorem netc (h : ∀ i, i < tn t → of i = of' i) {i : Nat} (hi : i < tn t) : (netT t dy td of set).c i = (netT t dy td of' set).c i := by
  show 1000 * hurtN (tk t i) td dy (of i) + tl t i = 1000 * hurtN (tk t i) td dy (of' i) + tl t i
  rw [h i hi]
theorem ds_congr (h : ∀ i, i < tn t → of i = of' i) (F to : Nat) : (netT t dy td of set).ds F to = (netT t dy td of' set).ds F to := by
  unfold Net.ds Net.rds
  refine (it_cong (P := fun _ => True) (n := 8) (fun _ D _ _ => ⟨?_, trivial⟩) 8 (Nat.le_refl _) _ trivial).1
  unfold Net.rd
  refine (it_cong (P := fun _ => True) (n := tn t) (fun i D hi _ => ⟨?_, trivial⟩) (tn t) (Nat.le_refl _) _ trivial).1
  unfold Net.st
  rw [netc h hi]
  rfl
theorem fs_congr (h : ∀ i, i < tn t → of i = of' i) (D : Nat → Nat) (x : Nat) : (netT t dy td of set).fs D x = (netT t dy td of' set).fs D x := by
  unfold Net.fs
  refine least_congr (n := tn t) (fun i hi => ?_)
  unfold Net.tight
  rw [netc h hi]
  rfl
theorem cs_congr (h : ∀ i, i < tn t → of i = of' i) (D : Nat → Nat) (fr k : Nat) : (netT t dy td of set).cs D fr k = (netT t dy td of' set).cs D fr k := by
  unfold Net.cs
  refine (it_cong (P := fun _ => True) (n := k) (fun _ x _ _ => ⟨?_, trivial⟩) k (Nat.le_refl _) _ trivial).1
  unfold Net.nx
  rw [fs_congr h]
  rfl
theorem cds_congr (h : ∀ i, i < tn t → of i = of' i) (to fr : Nat) : cds t dy td of set to fr = cds t dy td of' set to fr := by
  unfold cds
  rw [ds_congr h]
theorem cwl_congr (h : ∀ i, i < tn t → of i = of' i) (fr to : Nat) : cwl t dy td of set fr to = cwl t dy td of' set fr to := by
  unfold cwl Net.wl
  rw [ds_congr h]
  congr 1
  funext k
  rw [cs_congr h]
theorem cws_congr (h : ∀ i, i < tn t → of i = of' i) (fr to : Nat) : cws t dy td of set fr to = cws t dy td of' set fr to := by
  funext k
  unfold cws
  rw [ds_congr h, fs_congr h, cs_congr h]
end NETC
theorem draw_rel (y : Nat → Int32) {n : Nat} (hn : n < 2 ^ 31) {k : Nat} (h0 : 0 < k) (h9 : k < 9) : ∃ m j, m < 2 ^ 31 ∧ j < k ∧ fX2_draw (va_up y 18 (nI n)) k = (nI j, nI m) ∧ fX0_draw (Int64.ofNat n) k = (nI j, Int64.ofNat m) := by
  unfold fX2_draw fX0_draw
  rw [show va_up y 18 (nI n) 18 = nI n by unfold va_up; rw [if_pos rfl], nI_toL hn]
  obtain ⟨m, hm, e⟩ := drawn_nat (1103515245 * Int64.ofNat n + 12345)
  rw [e, l_toI hm, draw_mod hm h0 h9, pk_div hm (by omega) (by omega), pk_rem (by omega) h0 (by omega)]
  exact ⟨m, m / 65536 % k, hm, Nat.mod_lt _ h0, rfl, rfl⟩
theorem take_agree {f h : Nat → Int32} (e : ∀ k, k < 27 → f k = h k) (p : Nat) (ws : Nat → Nat) : ∀ many, ∀ k, k < 27 → takeW f p ws many k = takeW h p ws many k := by
  intro many
  induction many with
  | zero => exact e
  | succ n ih =>
    intro k hk
    show upd (takeW f p ws n) (9 * p + ws n) (takeW f p ws n (9 * p + ws n) + nI 1) k = upd (takeW h p ws n) (9 * p + ws n) (takeW h p ws n (9 * p + ws n) + nI 1) k
    unfold upd
    by_cases z : k = 9 * p + ws n
    · rw [if_pos z, if_pos z, ← z, ih k hk]
    · rw [if_neg z, if_neg z]; exact ih k hk
def yrR (S : Int32 × Int32 × Int32 × (Nat → Int32)) (X : Int32 × Int32 × Int64 × (Nat → Int32)) : Prop := S.1 = X.1 ∧ S.2.1 = X.2.1 ∧ (∃ n, n < 2 ^ 31 ∧ S.2.2.1 = nI n ∧ X.2.2.1 = Int64.ofNat n) ∧ ∀ k, k < 27 → S.2.2.2 k = X.2.2.2 k
section YRS
variable {g : Nat → Nat} {gx : Nat → Nat → Nat} {a : Nat → Nat → Int32} {ax : Nat → Nat → Nat → Int32} {t : TW} {td td' : Nat → Nat}
theorem yr_step (y : Nat → Int32) (ok : tOK t) (h4 : g 4 = tn t) (h31 : g 3 = gx 0 1) (h0 : 0 < g 3) (h3 : g 3 ≤ 3) (htd : ∀ p, p < g 3 → td p = td' p) (i : Nat) {S : Int32 × Int32 × Int32 × (Nat → Int32)} {X : Int32 × Int32 × Int64 × (Nat → Int32)} (h : yrR S X) : yrR (fX2_years_b66 g y a t td i S) (fX0_yearsTold_b26 gx t td' (g 5) i X) := by
  obtain ⟨e1, e2, ⟨n, hn, e3, e4⟩, e5⟩ := h
  obtain ⟨m1, p, hm1, hp, d1, x1⟩ := draw_rel y hn h0 (show g 3 < 9 by omega)
  obtain ⟨m2, f, hm2, hf, d2, x2⟩ := draw_rel y hm1 (show 0 < 8 by omega) (show 8 < 9 by omega)
  obtain ⟨m3, o, hm3, ho, d3, x3⟩ := draw_rel y hm2 (show 0 < 8 by omega) (show 8 < 9 by omega)
  unfold fX2_years_b66 fX0_yearsTold_b26
  rw [e3, e4, ← h31]
  simp only [d1, x1, d2, x2, d3, x3]
  rw [show toN (nI p) = p from nI_clamp (by omega), show toN (nI f) = f from nI_clamp (by omega), show toN (nI o) = o from nI_clamp (by omega)]
  have h9 : tn t ≤ 9 := ok.1
  have hof : ∀ i, i < tn t → (fun s => toN (S.2.2.2 (9 * p + s))) i = (fun s => toN (X.2.2.2 (9 * p + s))) i := fun i hi => by
    show toN (S.2.2.2 (9 * p + i)) = toN (X.2.2.2 (9 * p + i))
    rw [e5 _ (by omega)]
  have stay : yrR (S.1, S.2.1, nI m3, S.2.2.2) (X.1, X.2.1, Int64.ofNat m3, X.2.2.2) := ⟨e1, e2, ⟨m3, hm3, rfl, rfl⟩, e5⟩
  by_cases z : f = o
  · rw [if_pos z, if_pos z]; exact stay
  · rw [if_neg z, if_neg z]
    unfold fX2_layWayS fX1_layWayS fX2_takeThroughS fX1_takeS
    rw [l_every h4, htd p hp]
    dsimp only
    rw [cds_congr hof, cwl_congr hof, cws_congr hof]
    have hl := cwl_le8 t (g 5) (td' p) (fun s => toN (X.2.2.2 (9 * p + s))) (fX0_all t) f o
    by_cases z2 : cds t (g 5) (td' p) (fun s => toN (X.2.2.2 (9 * p + s))) (fX0_all t) o f < 1000000000
    · rw [if_pos z2, if_pos z2, if_neg (nI_m1 (by omega)), if_neg (show ¬ nI 1 = 0 by decide)]
      refine ⟨by show S.1 + _ = X.1 + _; rw [e1], by show S.2.1 + 1 = X.2.1 + 1; rw [e2], ⟨m3, hm3, rfl, rfl⟩, ?_⟩
      show ∀ k, k < 27 → takeW (va_up a 9 S.2.2.2 9) p _ _ k = takeW X.2.2.2 p _ _ k
      rw [show va_up a 9 S.2.2.2 9 = S.2.2.2 by unfold va_up; rw [if_pos rfl]]
      exact take_agree e5 p _ _
    · rw [if_neg z2, if_neg z2, if_pos rfl, if_pos (show nI 0 = 0 from rfl)]
      exact stay
theorem copy_at {f h : Nat → Int32} {n : Nat} : ∀ m, m ≤ n → ∀ k, k < m → it (fun i S => upd S i (f i)) m h k = f k := by
  intro m
  induction m with
  | zero => intro _ k hk; omega
  | succ m ih =>
    intro hm k hk
    show upd (it (fun i S => upd S i (f i)) m h) m (f m) k = f k
    unfold upd
    by_cases z : k = m
    · rw [if_pos z, z]
    · rw [if_neg z]; exact ih (by omega) k (by omega)
theorem yr_all (y : Nat → Int32) (ok : tOK t) (h4 : g 4 = tn t) (h31 : g 3 = gx 0 1) (h5 : g 5 = gx (0 + 6) 9) (h0 : 0 < g 3) (h3 : g 3 ≤ 3) (htd : ∀ p, p < g 3 → td p = td' p) (h9 : ∀ k, k < 27 → a 9 k = ax (0 + 6) 1 k) (many : Nat) {sd : Nat} (hsd : sd < 2 ^ 31) : yrR (it (fX2_years_b66 g y a t td) many (nI 0, nI 0, nI sd, a 9)) (it (fX0_yearsTold_b26 gx t td' ((fX1_become_1_0 gx ax).2.2.2.2.2.2.2.2.2)) many (nI 0, nI 0, (nI sd).toInt64, ((fX1_become_1_0 gx ax).2.1))) := by
  have hd : (fX1_become_1_0 gx ax).2.2.2.2.2.2.2.2.2 = g 5 := by rw [h5]; rfl
  rw [hd, nI_toL hsd]
  refine itR (P := yrR) (n := many) (fun i u v _ p => yr_step y ok h4 h31 h0 h3 htd i p) many (Nat.le_refl _) _ _ ⟨rfl, rfl, ⟨sd, hsd, rfl, rfl⟩, fun k hk => ?_⟩
  show a 9 k = it (fX1_become_1_0_b2 ax) 27 (ax (1 + 6) 1) k
  rw [h9 k hk]
  exact (copy_at (f := ax (0 + 6) 1) (n := 27) 27 (Nat.le_refl _) k hk).symm
end YRS
