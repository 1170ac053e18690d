/-! X0.fault: a reader is made, it reads -/
set_option maxRecDepth 100000
def rt0 (e0 : Nat) : TW := (0, fun _ => 0, fun _ => 0, fun _ => 0, fun _ => 0, fun _ => 0, e0, false, nI 0)
theorem rt0_ok (e0 : Nat) : tOK (rt0 e0) := ⟨Nat.zero_le _, fun h => absurd h (by show ¬ 0 < 0; omega), fun s h => absurd h (by show ¬ s < 0; omega)⟩
theorem xH.reader {ω : OM} {u : XS} {H0 H2 : Heap} {e0 q sz : Nat} {ee : va_E} {w : Nat → Nat} (h : xH ω u H0) (hk : ∀ x : Nat, x < H0.size → H2[x]? = H0[x]?) (hP : va_P ω.1 vwCl (wX3_init ω e0 q (ω.2.1 0 99) w) H2) (hD : va_D (va_A [(q, ee)] sz) (wX3_init ω e0 q (ω.2.1 0 99) w)) (hq : H0.size ≤ q) (hs : H0.size ≤ sz) (hA : ∀ x, H0.size ≤ x → ω.2.2.1 x) : yH ω (q, w 0, w 1) u (0, 0, fun _ => 0, rt0 e0, (false, 0, 0, 0, 0, 0), (false, 0, 0)) H2 := by
  have n01 : q ≠ w 0 := fun z => by have := hD.1 0 1 _ _ rfl rfl z; omega
  have n02 : q ≠ w 1 := fun z => by have := hD.1 0 2 _ _ rfl rfl z; omega
  have n12 : w 0 ≠ w 1 := fun z => by have := hD.1 1 2 _ _ rfl rfl z; omega
  have fr : ∀ x, va_A [(q, ee)] sz x → H0.size ≤ x := va_A_in0 (A := fun x => H0.size ≤ x) hq (fun x hx => Nat.le_trans hs hx)
  have f0 : H0.size ≤ w 0 := fr _ (hD.2 1 _ rfl)
  have f1 : H0.size ≤ w 1 := fr _ (hD.2 2 _ rfl)
  have key : ∀ o k, yI u.2.2.2.2.2.2 (0, 0, fun _ => 0, rt0 e0, (false, 0, 0, 0, 0, 0), (false, 0, 0)) o k = true → (xI u.2.2.2.2.2.2 o k = true ∧ ¬ o = 3 ∧ ¬ o = 4) ∨ (o = 3 ∧ k = 99) ∨ (o = 3 ∧ k = 2) ∨ (o = 4 ∧ k = 99) := by
    intro o k hi
    match o, hi with
    | 0, hi => exact Or.inl ⟨hi, by omega, by omega⟩
    | 1, hi => exact Or.inl ⟨hi, by omega, by omega⟩
    | 2, hi => exact Or.inl ⟨hi, by omega, by omega⟩
    | 3, hi =>
      have : (k == 99 || k == 2) = true := hi
      simp only [Bool.or_eq_true, beq_iff_eq] at this
      rcases this with z | z
      · exact Or.inr (Or.inl ⟨rfl, z⟩)
      · exact Or.inr (Or.inr (Or.inl ⟨rfl, z⟩))
    | 4, hi =>
      have : (k == 99 || (k == 0 && false)) = true := hi
      simp only [Bool.and_false, Bool.or_false, beq_iff_eq] at this
      exact Or.inr (Or.inr (Or.inr ⟨rfl, this⟩))
    | 5, hi =>
      have : (decide (k < 0) || ((k == 50 && false) || (k == 51 && false))) = true := hi
      simp at this
    | j + 6, hi => exact Or.inl ⟨hi, by omega, by omega⟩
  have xlt : ∀ o k, xI u.2.2.2.2.2.2 o k = true → xad ω u.2.2.2.2.2.2 o k < H0.size := fun o k hi => h.1.lt hi
  have xa : ∀ o k, xI u.2.2.2.2.2.2 o k = true → yad ω (q, w 0, w 1) u.2.2.2.2.2.2 (0, 0, fun _ => 0, rt0 e0, (false, 0, 0, 0, 0, 0), (false, 0, 0)) o k = xad ω u.2.2.2.2.2.2 o k := fun o k hi => ((yI_x hi).2 ω (q, w 0, w 1) u).1
  have xe : ∀ o k, xI u.2.2.2.2.2.2 o k = true → yE ω (q, w 0, w 1) u (0, 0, fun _ => 0, rt0 e0, (false, 0, 0, 0, 0, 0), (false, 0, 0)) o k = xE ω u o k := fun o k hi => ((yI_x hi).2 ω (q, w 0, w 1) u).2
  refine ⟨fun o k hi => ?_, ⟨fun o k o' k' hi hi' z => ?_, fun o k hi => ?_⟩, h.2.2, rt0_ok e0, by show (0 : Nat) < 5; omega⟩
  · rcases key o k hi with ⟨hx, _⟩ | ⟨rfl, rfl⟩ | ⟨rfl, rfl⟩ | ⟨rfl, rfl⟩
    · rw [xa o k hx, xe o k hx]
      exact (h.1 o k hx).kept (hk _ (xlt o k hx))
    · exact hP 0 _ rfl
    · exact hP 1 _ rfl
    · exact hP 2 _ rfl
  · rcases key o k hi with ⟨hx, _⟩ | ⟨rfl, rfl⟩ | ⟨rfl, rfl⟩ | ⟨rfl, rfl⟩ <;> rcases key o' k' hi' with ⟨hx', _⟩ | ⟨rfl, rfl⟩ | ⟨rfl, rfl⟩ | ⟨rfl, rfl⟩
    · rw [xa o k hx, xa o' k' hx'] at z; exact h.2.1.1 o k o' k' hx hx' z
    · rw [xa o k hx] at z; have := xlt o k hx; exact absurd (show xad ω u.2.2.2.2.2.2 o k = q from z) (by omega)
    · rw [xa o k hx] at z; have := xlt o k hx; exact absurd (show xad ω u.2.2.2.2.2.2 o k = w 0 from z) (by omega)
    · rw [xa o k hx] at z; have := xlt o k hx; exact absurd (show xad ω u.2.2.2.2.2.2 o k = w 1 from z) (by omega)
    · rw [xa o' k' hx'] at z; have := xlt o' k' hx'; exact absurd (show q = xad ω u.2.2.2.2.2.2 o' k' from z) (by omega)
    · exact ⟨rfl, rfl⟩
    · exact absurd z n01
    · exact absurd z n02
    · rw [xa o' k' hx'] at z; have := xlt o' k' hx'; exact absurd (show w 0 = xad ω u.2.2.2.2.2.2 o' k' from z) (by omega)
    · exact absurd z.symm n01
    · exact ⟨rfl, rfl⟩
    · exact absurd z n12
    · rw [xa o' k' hx'] at z; have := xlt o' k' hx'; exact absurd (show w 1 = xad ω u.2.2.2.2.2.2 o' k' from z) (by omega)
    · exact absurd z.symm n02
    · exact absurd z.symm n12
    · exact ⟨rfl, rfl⟩
  · rcases key o k hi with ⟨hx, _⟩ | ⟨rfl, rfl⟩ | ⟨rfl, rfl⟩ | ⟨rfl, rfl⟩
    · rw [xa o k hx]; exact h.2.1.2 o k hx
    · exact hA _ hq
    · exact hA _ f0
    · exact hA _ f1
section RDN
variable {p : Program} {l : Launch} {e : Env} {R : Room} {s : State} {m : MethodId} {args : Array Value} {below : List Frame} {meth : Method} {c : Code} {Q : State → Prop} {cc : ByteArray} {pc nL k0 : Nat} {ls : Array Slot} {lv : List (Nat × Value)} {rest : List Value} {ω : OM} {e0 : Nat} {v1 v2 : Value}
variable {g : Nat → Nat → Nat} {y : Nat → Nat → Int32} {a z : Nat → Nat → Nat → Int32} {dr : Int64} {pg : Nat → Int32} {t : TW}
/-- a reader is made and reads a town -/
theorem rd_new (hF : CallFix p m c cc nL s args lw_all RX0) (hK : yK ω e0 v1 v2 s) (hX : xH ω (g, y, a, z, dr, pg, t) s.heap) (hp50 : g 0 7 ≤ 50) (hl : lv_has ls nL lv) (h0 : lv[k0]? = some (0, .ref (ω.2.1 0 99))) (hR : 8 ≤ R.frames ∧ 190 ≤ R.locals ∧ 80 ≤ R.cells ∧ 541 ≤ R.slots)
    (hW0 : (rest.map fun v => v.category).sum ≤ 8) (hW1 : ∀ q, ((Value.ref q :: rest).map fun v => v.category).sum ≤ 8)
    (d0 : decode cc pc = .ok (.new 110, 3)) (d1 : decode cc (pc + 3) = .ok (.dup, 1)) (d2 : decode cc (pc + 3 + 1) = .ok (.aload_n 0, 1)) (d3 : decode cc (pc + 3 + 1 + 1) = .ok (.invokespecial 112, 3)) (d4 : decode cc (pc + 3 + 1 + 1 + 3) = .ok (.invokevirtual 113, 3))
    (k1 : ∀ (σ : RA) (np j : Nat) (rt : TW) (tf : Nat → Int32) (H : Heap) (locs : List Loc), pre g pg np j rt → 2 ≤ j → g 0 7 = np + 5 * j → (∀ i, i < np → tf i = pg i - nI 48) → yH ω σ (g, y, a, z, dr, pg, t) (np + 5 * j, np, tf, rt, (false, 0, 0, 0, 0, 0), (false, 0, 0)) H → va_S ω.2.2.1 s.heap H locs → W p l e R s m args below meth c H locs 80 541 Q (F0 m (pc + 3 + 1 + 1 + 3 + 3) ls (.ref σ.1 :: rest)))
    (k2 : ∀ (σ : RA) (n qq pl pp : Nat) (tf : Nat → Int32) (rt : TW) (cu : CU) (H : Heap) (locs : List Loc), tBad g pg n → yH ω σ (g, y, a, z, dr, pg, t) (pl, pp, tf, rt, cu, (true, qq, n)) H → va_S ω.2.2.1 s.heap H locs → WT p l e R s m args below meth c H locs 80 541 Q qq (F0 m (pc + 3 + 1 + 1 + 3) ls rest)) : W p l e R s m args below meth c s.heap [] 0 0 Q (F0 m pc ls rest) := by
  have hfr := hK.2.2.2.2.2
  refine g_new (ci := 3) (fs := [.int 0, .int 0, .null, .null, .null]) hF in_X3 tyX3 tyX3_ok q313 q314 q98 hK.1.1 (va_S.rf (A := ω.2.2.1)) rfl (by decide) (by omega) (by omega) d0 (fun H1 z1 o1 hP hS => ?_)
  refine lv_dup hF.1 hF.2.1 d1 rfl ?_
  refine lv_aload_n hF.1 hF.2.1 d2 rfl (lv_at hl k0 h0) ?_
  have hAB : ∀ x, va_A [(s.heap.size, .inr (3, [.int 0, .int 0, .null, .null, .null]))] H1.size x → ω.2.2.1 x := va_A_in0 (hfr _ (Nat.le_refl _)) (fun x hx => hfr x (by omega))
  refine g_iNCf (As := [.ref (ω.2.1 0 99)]) (rest := .ref s.heap.size :: rest) (Kp := fun U => mK ω U ∧ zE e0 (va_A [(s.heap.size, .inr (3, [.int 0, .int 0, .null, .null, .null]))] H1.size) U) (ee := .inr (3, [.int 0, .int 0, .null, .null, .null])) (Wf := wX3_init ω e0 s.heap.size (ω.2.1 0 99)) hF (kX3_init l ω e0 _ s.heap.size (ω.2.1 0 99)) (lw_meth q317) (xn_q315 hK.1.2) q98 q316 1 (by decide +kernel) rfl rfl ⟨Nat.le_trans (Nat.le_of_ble_eq_true rfl) hR.1, Nat.le_trans (Nat.le_of_ble_eq_true rfl) hR.2.1⟩ (fun a U g mk h => ⟨va_K.moved (u := U) (U := U.calling g mk a) (Vm.Alike.refl U.vm) h.1, h.2.call⟩) (fun U hU hW => ⟨(hK.1.warm hW).1, hK.2.1.to (U := U) (by rw [hU]; exact hS) hW hAB⟩) hP hS (hfr _ (Nat.le_refl _)) hfr rfl hl.1 rfl (hW1 _) d3 ⟨by omega, by omega⟩ (fun w H2 locs hP2 hD2 z2 o2 hS => ?_)
  have hH := xH.reader hX (fun x hx => (o2 x (by omega) (by omega)).trans (o1 x hx)) hP2 hD2 (Nat.le_refl _) (by omega) hfr
  refine g_vT (As := []) (rest := rest) hF (kX3_town l ω (s.heap.size, w 0, w 1) e0 v1 v2 g y a z dr pg t (fun _ => 0) (rt0 e0) 0 0 hp50 rfl (fun _ => rfl)) (lw_V q340 q341 q342 q98 q343) 0 hdX3_town rfl rfl ⟨Nat.le_trans (Nat.le_of_ble_eq_true rfl) hR.1, Nat.le_trans (Nat.le_of_ble_eq_true rfl) hR.2.1⟩ (y_preV hK hH hS) rfl hl.1 rfl hW0 d4 ⟨by omega, by omega⟩ hS (fun o ρ' H locs hq hH hS => ?_)
  rcases hq with ⟨np, j, rt, tf, hI, h2, hN, htf, rfl, rfl⟩ | ⟨n, hbad, hthr⟩
  · exact k1 _ np j rt tf H locs hI h2 hN htf hH hS
  · obtain ⟨qq, rfl, hso⟩ := hthr
    obtain ⟨pl, pp, tf, rt, cu, so⟩ := ρ'
    have hso : so = (true, qq, n) := hso
    subst hso
    exact k2 _ n qq pl pp tf rt cu H locs hbad hH hS
/-- the Stop that is thrown is caught -/
theorem rd_caught {σ : RA} {n qq pl pp a0 b0 h0 : Nat} {tf : Nat → Int32} {rt : TW} {cu : CU} {H : Heap} {locs : List Loc} {cells slots : Nat} (hF : CallFix p m c cc nL s args lw_all RX0) (hK : yK ω e0 v1 v2 s) (hH : yH ω σ (g, y, a, z, dr, pg, t) (pl, pp, tf, rt, cu, (true, qq, n)) H) (hh : c.exceptionTable.toList.map (fun h => (h.startPc, h.endPc, h.handlerPc, h.catchType)) = [(a0, b0, h0, 117)]) (hr : a0 ≤ pc ∧ pc < b0)
    (kk : va_P ω.1 vwCl [(qq, .inr (4, soF n))] H → W p l e R s m args below meth c H locs cells slots Q (F0 m h0 ls [.ref qq])) : WT p l e R s m args below meth c H locs cells slots Q qq (F0 m pc ls rest) := by
  have hi : yI t (pl, pp, tf, rt, cu, (true, qq, n)) 5 51 = true := by simp [yI]
  have hc : va_P ω.1 vwCl [(qq, .inr (4, soF n))] H := gw_one (o := 5) (k := 51) hH.1 hi rfl
  refine WT.caught (own := RX0) (C := "HurtStreets$Stop") hh hr (by decide) hF.2.2.2.1 (hF.2.2.2.2 _ q312) ⟨default, _, (hK.1.1.1 4 _ rfl).2⟩ (va_recv hK.1.1 hc (ci := 4) (q0 := 0) rfl rfl) (kk hc)
end RDN
