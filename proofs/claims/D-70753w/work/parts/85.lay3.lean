/-! lay: the streets are moved over -/
set_option maxRecDepth 100000
section LV0
variable {l : Launch} {y : MethodName} {cc : ByteArray} {nL : Nat} {rm : Room} {av : List Value} {C : String} {S : Type} {Kp : State → Prop} {Hp : S → Heap → Prop} {A : Nat → Prop} {mc ms : Nat}
/-- entry, nothing answered; the heap is the first one -/
theorem g_entWv0 {post : S → Prop} (hC : y.cls = C) (hy : plainName C = true) (hlen : (lg_sl av).length ≤ nL)
    (body : ∀ (p : Program) (e : Env) (s : State) (m : MethodId) (args : Array Value) (below : List Frame) (meth : Method) (c : Code) (QQ : State → Prop) (ls : Array Slot), CallFix p m c cc nL s args lw_all C → Kp s → lv_has ls nL (lv_args 0 av) →
      (∀ (pc : Nat) (ls : Array Slot) (u : S) (H : Heap) (locs : List Loc), decode cc pc = .ok (.return_, 1) → post u → Hp u H → va_S A s.heap H locs → W p l e rm s m args below meth c H locs mc ms QQ (F0 m pc ls [])) →
      W p l e rm s m args below meth c s.heap [] 0 0 QQ (F0 m 0 ls [])) : Met l y (ws_ y cc nL none) rm (va_Pc av Kp) (va_Qv post (fun u t => Hp u t.heap) A) mc ms A := by
  subst hC
  refine Met.ofW (cc := cc) (maxL := nL) (ret := none) hy rfl ?_
  intro p e s m args below meth c s₁ B hml hv
  obtain ⟨rfl, hk⟩ := hv
  have hts := atoms_spec (ws := ws_ y cc nL none) B.pre
  have hts : ∀ w ∈ lw_all, w.before _ s = true := fun w h => hts w (List.mem_cons_of_mem _ h)
  rw [lg_entry_eq]
  exact body p e s m _ below meth c _ _ ⟨B.exec, B.bytes, hml, findClass_of_methodNamed B.named, hts⟩ hk (lv_entry av hlen) (fun pc ls u H locs hd hp hH hS => W.vret B.exec B.bytes B.returns (fun t ht _ => ⟨⟨u, rfl, hp, by show Hp u t.heap; rw [ht]; exact hH⟩, hS.F ht⟩) hS.2.2 hd (hlocks := B.notSynchronized))
end LV0
/-- a street's cell: it may be cast, it is an object -/
theorem st_cast {p : Program} {l : Launch} {e : Env} {R : Room} {s : State} {m : MethodId} {args : Array Value} {below : List Frame} {meth : Method} {c : Code} {H : Heap} {locs : List Loc} {cells slots : Nat} {Q : State → Prop} {cc : ByteArray} {pc nL index : Nat} {ls : Array Slot} {rest : List Value} {ω : OM} {own : String} {v k : Nat} {fs : List Value} (hF : CallFix p m c cc nL s args lw_all own) (hK : xK ω s) (h5 : k < 5) (hP : va_P ω.1 vwCl [(v, .inr (5 + k, fs))] H) (hlink : Cond.classLink own index "HurtStreets$Street" ∈ lw_all) (hdg : decode cc pc = .ok (.checkcast index, 3)) (kk : W p l e R s m args below meth c H locs cells slots Q (F0 m (pc + 3) ls (.ref v :: rest))) : W p l e R s m args below meth c H locs cells slots Q (F0 m pc ls (.ref v :: rest)) := by
  rcases (show k = 0 ∨ k = 1 ∨ k = 2 ∨ k = 3 ∨ k = 4 by omega) with h | h | h | h | h <;> subst h
  · exact va_castS hF.1 hF.2.1 hF.2.2.2.1 (hF.2.2.2.2 _ hlink) (hK.1.1 5 _ rfl).2 (va_recv hK.1 hP (ci := 5) (q0 := 0) rfl rfl) hdg kk
  · exact va_castY hF.1 hF.2.1 hF.2.2.2.1 (hF.2.2.2.2 _ hlink) (xn_q1391 hK.2) (va_recv hK.1 hP (ci := 6) (q0 := 0) rfl rfl) hdg kk
  · exact va_castY hF.1 hF.2.1 hF.2.2.2.1 (hF.2.2.2.2 _ hlink) (xn_q1392 hK.2) (va_recv hK.1 hP (ci := 7) (q0 := 0) rfl rfl) hdg kk
  · exact va_castY hF.1 hF.2.1 hF.2.2.2.1 (hF.2.2.2.2 _ hlink) (xn_q1390 hK.2) (va_recv hK.1 hP (ci := 8) (q0 := 0) rfl rfl) hdg kk
  · exact va_castY hF.1 hF.2.1 hF.2.2.2.1 (hF.2.2.2.2 _ hlink) (xn_q1389 hK.2) (va_recv hK.1 hP (ci := 9) (q0 := 0) rfl rfl) hdg kk
theorem st_any {ω : OM} {e0 : Nat} {v1 v2 : Value} {U : State} {v k : Nat} {fs : List Value} (hK : yK ω e0 v1 v2 U) (h5 : k < 5) (hP : va_P ω.1 vwCl [(v, .inr (5 + k, fs))] U.heap) : anyK v U := by
  have hO := hK.2.2.2.2.1.2
  rcases (show k = 0 ∨ k = 1 ∨ k = 2 ∨ k = 3 ∨ k = 4 by omega) with h | h | h | h | h <;> subst h
  · exact o_any (C := RX5) hK.1.1 hP rfl hO.1
  · exact o_any (C := RX6) hK.1.1 hP rfl hO.2.1
  · exact o_any (C := RX7) hK.1.1 hP rfl hO.2.2.1
  · exact o_any (C := RX8) hK.1.1 hP rfl hO.2.2.2.1
  · exact o_any (C := RX9) hK.1.1 hP rfl hO.2.2.2.2
def pfx (rt : TW) (i : Nat) : Nat → Option Nat := fun k => if k < i then some (tsa rt k) else none
theorem pfx_push (rt : TW) (i : Nat) : rpush (pfx rt i) i (tsa rt i) = pfx rt (i + 1) := by
  funext k
  show (if k = i then some (tsa rt i) else pfx rt i k) = pfx rt (i + 1) k
  unfold pfx
  by_cases h : k = i
  · subst h; rw [if_pos rfl, if_pos (by omega)]
  · rw [if_neg h]
    by_cases h2 : k < i
    · rw [if_pos h2, if_pos (by omega)]
    · rw [if_neg h2, if_neg (by omega)]
theorem kX0_lay (l : Launch) (ω : OM) (σ : RA) (e0 : Nat) (v1 v2 : Value) (g : Nat → Nat → Nat) (y : Nat → Nat → Int32) (a z : Nat → Nat → Nat → Int32) (dr : Int64) (pg : Nat → Int32) (t : TW) (pl np : Nat) (tf : Nat → Int32) (rt : TW) (b2 b3 : Nat) (hnp : np ≤ 3) (h1 : 1 ≤ tn rt) (hte : town t = false → ted t = e0) : Met l yX0_lay (ws_ yX0_lay cX0_lay 3 none) rmX0_lay (va_Pc [.ref (ω.2.1 0 99), .ref σ.1] (fun U => yK ω e0 v1 v2 U ∧ yH ω σ (g, y, a, z, dr, pg, t) (pl, np, tf, rt, (false, 0, 0, 0, 0, 0), (false, b2, b3)) U.heap)) (va_Qv (fun (u : XS) => ∃ ed mo, u = (up2 (up2 g 0 1 np) (0 + 6) 9 0, y, up2 (bgA a) (0 + 6) 0 (layT tf np (a (0 + 6) 0)), z, dr, pg, tnew rt ed mo)) (fun u t => xH (oR ω σ) u t.heap) (aR ω σ)) 9 90 (aR ω σ) := by
  refine g_entWv0 (C := RX0) (Hp := xH (oR ω σ)) rfl (by decide) (Nat.le_of_ble_eq_true rfl) ?_
  intro p e s m args below meth c QQ ls hF hKH hl hret
  obtain ⟨hK, hH⟩ := hKH
  have hl : lv_has ls 3 [(0, .ref (ω.2.1 0 99)), (1, .ref σ.1)] := hl
  obtain ⟨ρ, hρ⟩ : ∃ ρ : RD, ρ = (pl, np, tf, rt, (false, 0, 0, 0, 0, 0), (false, b2, b3)) := ⟨_, rfl⟩
  have h9 : tn rt ≤ 9 := hH.2.2.2.1.1
  have htw : town rt = true := hH.2.2.2.1.2.1 (by show 0 < tn rt; omega)
  have s1 : σ.1 < s.heap.size := hH.1.lt (o := 3) (k := 99) rfl
  have s2 : σ.2.1 < s.heap.size := hH.1.lt (o := 3) (k := 2) rfl
  have hfr : ∀ x, s.heap.size ≤ x → aR ω σ x := fun x h => ⟨hK.2.2.2.2.2 x h, by omega, by omega⟩
  have hAA : ∀ q, aR ω σ q → ω.2.2.1 q := fun q h => h.1
  have hA1 : aR ω σ (ω.2.1 1 99) := ⟨hH.2.1.2 1 99 rfl, fun q => by have := (hH.2.1.1 1 99 3 99 rfl rfl q).1; omega, fun q => by have := (hH.2.1.1 1 99 3 2 rfl rfl q).1; omega⟩
  have hA2 : town t = true → aR ω σ (ted t) := fun ht => ⟨hH.2.1.2 1 0 (yI_10 ht), fun q => by have := (hH.2.1.1 1 0 3 99 (yI_10 ht) rfl q).1; omega, fun q => by have := (hH.2.1.1 1 0 3 2 (yI_10 ht) rfl q).1; omega⟩
  have hle0 : town t = true → ω.2.1 1 99 ≠ ted t := fun ht q => by
    have := (hH.2.1.1 1 99 1 0 rfl (yI_10 ht) q).2
    omega
  have hc : ∀ H : Heap, (∀ x : Nat, x < s.heap.size → x ≠ ω.2.1 1 99 → (town t = true → x ≠ ted t) → H[x]? = s.heap[x]?) → ∀ o k, yI t (pl, np, tf, rt, (false, 0, 0, 0, 0, 0), (false, b2, b3)) o k = true → ¬ o = 1 → va_at ω.1 vwCl (yad ω σ t (pl, np, tf, rt, (false, 0, 0, 0, 0, 0), (false, b2, b3)) o k, yE ω σ (g, y, a, z, dr, pg, t) (pl, np, tf, rt, (false, 0, 0, 0, 0, 0), (false, b2, b3)) o k) H := by
    intro H hk o k hi ho
    exact (hH.1 o k hi).kept (hk _ (hH.1.lt hi) (fun q => ho (hH.2.1.1 o k 1 99 hi rfl q).1) (fun ht q => ho (hH.2.1.1 o k 1 0 hi (yI_10 ht) q).1))
  have hi5 : ∀ i, i < tn rt → yI t (pl, np, tf, rt, (false, 0, 0, 0, 0, 0), (false, b2, b3)) 5 i = true := fun i hi => by simp [yI, hi]
  have ha5 : ∀ i, i < tn rt → yad ω σ t (pl, np, tf, rt, (false, 0, 0, 0, 0, 0), (false, b2, b3)) 5 i = tsa rt i := fun i hi => by
    show (if i = 50 then _ else if i = 51 then _ else tsa rt i) = tsa rt i
    rw [if_neg (by omega), if_neg (by omega)]
  have he5 : ∀ i, i < tn rt → yE ω σ (g, y, a, z, dr, pg, t) (pl, np, tf, rt, (false, 0, 0, 0, 0, 0), (false, b2, b3)) 5 i = .inr (5 + tk rt i, [.int (nI (ta rt i)), .int (nI (tb rt i)), .int (nI (tl rt i))]) := fun i hi => by
    show (if i = 50 then _ else if i = 51 then _ else _) = _
    rw [if_neg (by omega), if_neg (by omega)]
  have hst : ∀ H : Heap, (∀ x : Nat, x < s.heap.size → x ≠ ω.2.1 1 99 → (town t = true → x ≠ ted t) → H[x]? = s.heap[x]?) → ∀ i, i < tn rt → va_P ω.1 vwCl [(tsa rt i, .inr (5 + tk rt i, [.int (nI (ta rt i)), .int (nI (tb rt i)), .int (nI (tl rt i))]))] H := by
    intro H hk i hi
    have := hc H hk 5 i (hi5 i hi) (by omega)
    rw [ha5 i hi, he5 i hi] at this
    exact P_one this
  have hk5 : ∀ i, i < tn rt → tk rt i < 5 := fun i hi => (hH.2.2.2.1.2.2 i hi).1
  have i40 : yI t (pl, np, tf, rt, (false, 0, 0, 0, 0, 0), (false, b2, b3)) 4 0 = true := by simp [yI, htw]
  have hP0 : va_P ω.1 vwCl (lws ω (town t) (ω.2.1 1 99) (ted t) (tmod t) (tn t) (trefs t)) s.heap := by
    cases htt : town t with
    | false => exact P_one (hH.1 1 99 rfl)
    | true => exact P_two (hH.1 1 99 rfl) (hH.1 1 0 (yI_10 htt))
  refine lv_aload_n hF.1 hF.2.1 dX0_lay_0 rfl (lv_at hl 0 rfl) ?_
  refine xg0_0 hF hK.1 hH.x q218 dX0_lay_1 ?_
  refine l_clear (A := aR ω σ) hF (lw_V q565 q566 q567 q95 q568) hK.1.1 hfr hP0 (fun ht => ?_) hH.2.2.1.1 (fun i hi => ?_) hle0 va_S.rf hA1 hA2 ⟨Nat.le_of_ble_eq_true rfl, Nat.le_of_ble_eq_true rfl⟩ hl.1 (Nat.le_of_ble_eq_true rfl) dX0_lay_4 ⟨Nat.le_of_ble_eq_true rfl, Nat.le_of_ble_eq_true rfl⟩ (fun H1 locs hP _ hk hS => ?_)
  · have hn0 : tn t = 0 := by
      rcases Nat.eq_zero_or_pos (tn t) with q | q
      · exact q
      · have := hH.2.2.1.2.1 q
        rw [show town (g, y, a, z, dr, pg, t).2.2.2.2.2.2 = town t from rfl, ht] at this
        cases this
    exact ⟨hn0, by funext i; show (if i < tn t then _ else none) = none; rw [if_neg (by omega)]⟩
  · show (if i < tn t then _ else none) = none
    rw [if_neg (by omega)]
  refine lv_iconst (v := nI 0) hF.1 hF.2.1 dX0_lay_7 (by decide) ?_
  refine lv_istore_n (lv' := [(2, .int (nI 0)), (0, .ref (ω.2.1 0 99)), (1, .ref σ.1)]) hF.1 hF.2.1 dX0_lay_8 rfl hl (by decide) rfl (fun ls hl => ?_)
  have loop : ∀ (d i : Nat) (ow : Bool) (ed : Nat) (mo : Int32) (ls : Array Slot) (H : Heap) (locs : List Loc), i + d = tn rt → lv_has ls 3 [(2, .int (nI i)), (0, .ref (ω.2.1 0 99)), (1, .ref σ.1)] → va_P ω.1 vwCl (lws ω ow (ω.2.1 1 99) ed mo i (pfx rt i)) H → (ow = false → ed = e0 ∧ i = 0 ∧ town t = false) → (ow = true → ω.2.1 1 99 ≠ ed ∧ aR ω σ ed ∧ ((town t = true ∧ ed = ted t) ∨ s.heap.size ≤ ed)) → (∀ x : Nat, x < s.heap.size → x ≠ ω.2.1 1 99 → (town t = true → x ≠ ted t) → H[x]? = s.heap[x]?) → va_S (aR ω σ) s.heap H locs → W p l e rmX0_lay s m args below meth c H locs i (10 * i) QQ (F0 m 9 ls []) := by
    intro d
    induction d with
    | zero =>
      intro i ow ed mo ls H locs hi hl hP how hob hk hS
      have hin : i = tn rt := by omega
      have hL0 : va_P ω.1 vwCl (lw0 σ.2.2 (ted rt) (tmod rt) (tn rt)) H := P_one (hc H hk 4 99 rfl (by omega))
      refine lv_iload_n hF.1 hF.2.1 dX0_lay_9 rfl (lv_at hl 0 rfl) ?_
      refine lv_aload_n hF.1 hF.2.1 dX0_lay_10 rfl (lv_at hl 2 rfl) ?_
      refine va_getN hF.1 hF.2.1 hF.2.2.2.2 in_X3 hF.2.2.2.1 hK.1.1 (P_one (hc H hk 3 99 rfl (by omega))) 0 rfl rfl 3 (by decide) ((xn_q327 hK.1.2).use rfl) (fun _ h => h) rfl dX0_lay_11 ?_
      refine g_vPi (As := []) (rest := [.int (nI i)]) hF (kL_size l ω σ.2.2 (ted rt) (tn rt) (tmod rt)) (lw_V q569 q554 q555 q95 q556) 0 hdJ2_size rfl rfl ⟨Nat.le_of_ble_eq_true rfl, Nat.le_of_ble_eq_true rfl⟩ (l_preV hK.1.1 hL0 rfl) rfl hl.1 rfl (Nat.le_of_ble_eq_true rfl) dX0_lay_14 ⟨by simp only [rmX0_lay]; omega, by simp only [rmX0_lay]; omega⟩ (fun r e_r => ?_)
      subst e_r
      refine n_ge (tgt := 45) hF.1 hF.2.1 dX0_lay_17 (by decide) (by omega) (by omega) (fun _ => ?_) (fun h => absurd h (by omega))
      have hot : ow = true := by
        cases how' : ow with
        | true => rfl
        | false => have := (how how').2.1; omega
      subst hot
      have hP : va_P ω.1 vwCl (lw1 ω (ω.2.1 1 99) ed mo i (pfx rt i)) H := hP
      rw [hin] at hP
      obtain ⟨o1, o2, o3⟩ := hob rfl
      have hX := yH.laid (σ := σ) hH hk hP o1 o2 o3
      refine W.widen (k := 9) (n := 90) (by omega) (by omega) ?_
      refine lay_tail (ω := oR ω σ) (r := σ.1) (rtd := σ.2.1) (np := np) (tf := tf) (f0 := .int (nI pl)) (f3 := .ref σ.2.2) (f4 := .ref (ω.2.1 0 99)) hF hK.1 hX hS hnp (fun H locs hS => ?_) (fun H locs hS => ?_) hl (fun ls H locs hX hS => ?_)
      · exact P_one ((hH.1 3 99 rfl).kept (hS.2.1 _ s1 (fun q => q.2.1 rfl)))
      · exact P_one ((hH.1 3 2 rfl).kept (hS.2.1 _ s2 (fun q => q.2.2 rfl)))
      · exact hret _ _ _ _ _ dX0_lay_91 ⟨ed, mo, rfl⟩ hX hS
    | succ d ih =>
      intro i ow ed mo ls H locs hi hl hP how hob hk hS
      have hL0 : va_P ω.1 vwCl (lw0 σ.2.2 (ted rt) (tmod rt) (tn rt)) H := P_one (hc H hk 4 99 rfl (by omega))
      have hL1 : va_P ω.1 vwCl (lw1 ω σ.2.2 (ted rt) (tmod rt) (tn rt) (trefs rt)) H := P_two (hc H hk 4 99 rfl (by omega)) (hc H hk 4 0 i40 (by omega))
      refine lv_iload_n hF.1 hF.2.1 dX0_lay_9 rfl (lv_at hl 0 rfl) ?_
      refine lv_aload_n hF.1 hF.2.1 dX0_lay_10 rfl (lv_at hl 2 rfl) ?_
      refine va_getN hF.1 hF.2.1 hF.2.2.2.2 in_X3 hF.2.2.2.1 hK.1.1 (P_one (hc H hk 3 99 rfl (by omega))) 0 rfl rfl 3 (by decide) ((xn_q327 hK.1.2).use rfl) (fun _ h => h) rfl dX0_lay_11 ?_
      refine g_vPi (As := []) (rest := [.int (nI i)]) hF (kL_size l ω σ.2.2 (ted rt) (tn rt) (tmod rt)) (lw_V q569 q554 q555 q95 q556) 0 hdJ2_size rfl rfl ⟨Nat.le_of_ble_eq_true rfl, Nat.le_of_ble_eq_true rfl⟩ (l_preV hK.1.1 hL0 rfl) rfl hl.1 rfl (Nat.le_of_ble_eq_true rfl) dX0_lay_14 ⟨by simp only [rmX0_lay]; omega, by simp only [rmX0_lay]; omega⟩ (fun r e_r => ?_)
      subst e_r
      refine n_ge (tgt := 45) hF.1 hF.2.1 dX0_lay_17 (by decide) (by omega) (by omega) (fun h => absurd h (by omega)) (fun _ => ?_)
      refine lv_aload_n hF.1 hF.2.1 dX0_lay_20 rfl (lv_at hl 1 rfl) ?_
      refine va_get hF.1 hF.2.1 hF.2.2.2.2 in_X0 hF.2.2.2.1 hK.1.1 (P_one (hc H hk 0 99 rfl (by omega))) 0 rfl rfl 0 (by decide) (hF.2.2.2.2 _ q218) (fun _ h => h) rfl dX0_lay_21 ?_
      refine lv_aload_n hF.1 hF.2.1 dX0_lay_24 rfl (lv_at hl 2 rfl) ?_
      refine va_getN hF.1 hF.2.1 hF.2.2.2.2 in_X3 hF.2.2.2.1 hK.1.1 (P_one (hc H hk 3 99 rfl (by omega))) 0 rfl rfl 3 (by decide) ((xn_q327 hK.1.2).use rfl) (fun _ h => h) rfl dX0_lay_25 ?_
      refine lv_iload_n hF.1 hF.2.1 dX0_lay_28 rfl (lv_at hl 0 rfl) ?_
      refine g_vPr (As := [.int (nI i)]) (rest := [.ref (ω.2.1 1 99)]) hF (kL_get l ω σ.2.2 (ted rt) (tn rt) i (tsa rt i) (tmod rt) (trefs rt) (by omega) h9 (by show (if i < tn rt then some (tsa rt i) else none) = _; rw [if_pos (by omega)])) (lw_V q570 q571 q572 q95 q573) 1 hdJ2_get rfl rfl ⟨Nat.le_of_ble_eq_true rfl, Nat.le_of_ble_eq_true rfl⟩ (l_preV hK.1.1 hL1 rfl) rfl hl.1 rfl (Nat.le_of_ble_eq_true rfl) dX0_lay_29 ⟨by simp only [rmX0_lay]; omega, by simp only [rmX0_lay]; omega⟩ ?_
      refine st_cast hF hK.1 (hk5 i (by omega)) (hst H hk i (by omega)) q488 dX0_lay_32 ?_
      refine l_add (A := aR ω σ) (e0 := e0) (v1 := v1) (v2 := v2) hF (lw_V q584 q496 q497 q95 q498) hK hAA hfr hP (fun h => ⟨(how h).1, (how h).2.1, ?_⟩) (by omega) (fun h => (hob h).1) ?_ ?_ (fun U hU hW => ?_) hS hA1 (fun h => (hob h).2.1) ⟨Nat.le_of_ble_eq_true rfl, Nat.le_of_ble_eq_true rfl⟩ hl.1 (Nat.le_of_ble_eq_true rfl) dX0_lay_35 ⟨by simp only [rmX0_lay]; omega, by simp only [rmX0_lay]; omega⟩ (fun ed' H1 locs hP1 hle1 hAe hor hsz hk1 hS1 => ?_)
      · funext k
        show (if k < i then _ else none) = none
        have := (how h).2.1
        rw [if_neg (by omega)]
      · intro q
        have := (hH.2.1.1 5 i 1 99 (hi5 i (by omega)) rfl ((ha5 i (by omega)).trans q)).1
        omega
      · intro h q
        rcases (hob h).2.2 with ⟨ht, he⟩ | he
        · have := (hH.2.1.1 5 i 1 0 (hi5 i (by omega)) (yI_10 ht) ((ha5 i (by omega)).trans (q.trans he))).1
          omega
        · have h2 : yad ω σ t (pl, np, tf, rt, (false, 0, 0, 0, 0, 0), (false, b2, b3)) 5 i < s.heap.size := hH.1.lt (hi5 i (by omega))
          rw [ha5 i (by omega)] at h2
          omega
      · exact st_any (hK.to (U := U) (by rw [hU]; exact S_mono hS hAA) hW) (hk5 i (by omega)) (by rw [hU]; exact hst H hk i (by omega))
      · refine lv_pop hF.1 hF.2.1 dX0_lay_38 rfl ?_
        refine n_iinc (lv' := [(2, .int (nI (i + 1))), (0, .ref (ω.2.1 0 99)), (1, .ref σ.1)]) hF.1 hF.2.1 dX0_lay_39 hl (k := 0) rfl (by decide) rfl (fun ls hl => ?_)
        refine lv_goto (tgt := 9) hF.1 hF.2.1 dX0_lay_42 (by decide) ?_
        rw [pfx_push] at hP1
        refine ih (i + 1) true ed' _ _ _ _ (by omega) hl hP1 (fun h => by cases h) (fun _ => ⟨hle1, hAe, ?_⟩) (fun x hx hx1 hx2 => ?_) hS1
        · rcases hor with ⟨h, q⟩ | ⟨h, q⟩
          · rw [q]; exact (hob h).2.2
          · exact Or.inr (Nat.le_trans hS.1 q)
        · rw [hk1 x (Nat.lt_of_lt_of_le hx hS.1) hx1 (fun h q => ?_), hk x hx hx1 hx2]
          rcases (hob h).2.2 with ⟨ht, he⟩ | he
          · exact hx2 ht (q.trans he)
          · omega
  have hp0 : pfx rt 0 = fun _ => none := by
    funext k
    show (if k < 0 then _ else none) = none
    rw [if_neg (by omega)]
  refine loop (tn rt) 0 (town t) (ted t) _ _ _ _ (by omega) hl (by rw [hp0]; exact hP) (fun h => ⟨hte h, rfl, h⟩) (fun h => ⟨hle0 h, hA2 h, Or.inl ⟨h, rfl⟩⟩) hk hS
