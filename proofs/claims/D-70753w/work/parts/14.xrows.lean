/-! THE CLASS: rows of streets, of the list, calls by kind -/
set_option maxRecDepth 100000
section XR
variable {p : Program} {l : Launch} {e : Env} {R : Room} {s : State} {m : MethodId} {args : Array Value} {below : List Frame} {meth : Method} {c : Code} {H : Heap} {locs : List Loc} {cells slots : Nat} {Q : State → Prop} {cc : ByteArray} {pc nL index : Nat} {ls : Array Slot} {rest : List Value} {ω : OM} {own : String}
variable {g : Nat → Nat → Nat} {y : Nat → Nat → Int32} {a z : Nat → Nat → Nat → Int32} {dr : Int64} {pg : Nat → Int32} {t : TW}
theorem x_I2 {t : TW} {i : Nat} (h : i < tn t) : xI t 2 i = true := by simp [xI, h]
/-- a street's cell, by its kind -/
theorem xs_one {u : XS} {k : Nat} (hH : xH ω u H) {i : Nat} (hi : i < tn u.2.2.2.2.2.2) (hk : tk u.2.2.2.2.2.2 i = k) : va_P ω.1 vwCl [(tsa u.2.2.2.2.2.2 i, .inr (5 + k, [.int (nI (ta u.2.2.2.2.2.2 i)), .int (nI (tb u.2.2.2.2.2.2 i)), .int (nI (tl u.2.2.2.2.2.2 i))]))] H := by
  subst hk
  exact gw_one (o := 2) (k := i) hH.1 (x_I2 hi) rfl
theorem xs_kind {u : XS} (hH : xH ω u H) {i : Nat} (hi : i < tn u.2.2.2.2.2.2) : tk u.2.2.2.2.2.2 i = 0 ∨ tk u.2.2.2.2.2.2 i = 1 ∨ tk u.2.2.2.2.2.2 i = 2 ∨ tk u.2.2.2.2.2.2 i = 3 ∨ tk u.2.2.2.2.2.2 i = 4 := by
  have := (hH.2.2.2.2 i hi).1
  omega
theorem xs_g0 (hF : CallFix p m c cc nL s args lw_all own) (hK : xK ω s) (hH : xH ω (g, y, a, z, dr, pg, t) H) {i : Nat} (hi : i < tn t) (hlink : Cond.fieldLink own index "HurtStreets$Street" "one" "I" ∈ lw_all) (hdg : decode cc pc = .ok (.getfield index, 3)) (kk : W p l e R s m args below meth c H locs cells slots Q (F0 m (pc + 3) ls (.int (nI (ta t i)) :: rest))) : W p l e R s m args below meth c H locs cells slots Q (F0 m pc ls (.ref (tsa t i) :: rest)) := by
  rcases xs_kind hH hi with h | h | h | h | h
  · exact va_get hF.1 hF.2.1 hF.2.2.2.2 in_X5 hF.2.2.2.1 hK.1 (xs_one hH hi h) 0 rfl rfl 0 (by decide) (hF.2.2.2.2 _ hlink) (fun _ h => h) rfl hdg kk
  · exact va_get hF.1 hF.2.1 hF.2.2.2.2 in_X6 hF.2.2.2.1 hK.1 (xs_one hH hi h) 0 rfl rfl 0 (by decide) (hF.2.2.2.2 _ hlink) (fun _ h => h) rfl hdg kk
  · exact va_get hF.1 hF.2.1 hF.2.2.2.2 in_X7 hF.2.2.2.1 hK.1 (xs_one hH hi h) 0 rfl rfl 0 (by decide) (hF.2.2.2.2 _ hlink) (fun _ h => h) rfl hdg kk
  · exact va_get hF.1 hF.2.1 hF.2.2.2.2 in_X8 hF.2.2.2.1 hK.1 (xs_one hH hi h) 0 rfl rfl 0 (by decide) (hF.2.2.2.2 _ hlink) (fun _ h => h) rfl hdg kk
  · exact va_get hF.1 hF.2.1 hF.2.2.2.2 in_X9 hF.2.2.2.1 hK.1 (xs_one hH hi h) 0 rfl rfl 0 (by decide) (hF.2.2.2.2 _ hlink) (fun _ h => h) rfl hdg kk
theorem xs_g1 (hF : CallFix p m c cc nL s args lw_all own) (hK : xK ω s) (hH : xH ω (g, y, a, z, dr, pg, t) H) {i : Nat} (hi : i < tn t) (hlink : Cond.fieldLink own index "HurtStreets$Street" "other" "I" ∈ lw_all) (hdg : decode cc pc = .ok (.getfield index, 3)) (kk : W p l e R s m args below meth c H locs cells slots Q (F0 m (pc + 3) ls (.int (nI (tb t i)) :: rest))) : W p l e R s m args below meth c H locs cells slots Q (F0 m pc ls (.ref (tsa t i) :: rest)) := by
  rcases xs_kind hH hi with h | h | h | h | h
  · exact va_get hF.1 hF.2.1 hF.2.2.2.2 in_X5 hF.2.2.2.1 hK.1 (xs_one hH hi h) 0 rfl rfl 1 (by decide) (hF.2.2.2.2 _ hlink) (fun _ h => h) rfl hdg kk
  · exact va_get hF.1 hF.2.1 hF.2.2.2.2 in_X6 hF.2.2.2.1 hK.1 (xs_one hH hi h) 0 rfl rfl 1 (by decide) (hF.2.2.2.2 _ hlink) (fun _ h => h) rfl hdg kk
  · exact va_get hF.1 hF.2.1 hF.2.2.2.2 in_X7 hF.2.2.2.1 hK.1 (xs_one hH hi h) 0 rfl rfl 1 (by decide) (hF.2.2.2.2 _ hlink) (fun _ h => h) rfl hdg kk
  · exact va_get hF.1 hF.2.1 hF.2.2.2.2 in_X8 hF.2.2.2.1 hK.1 (xs_one hH hi h) 0 rfl rfl 1 (by decide) (hF.2.2.2.2 _ hlink) (fun _ h => h) rfl hdg kk
  · exact va_get hF.1 hF.2.1 hF.2.2.2.2 in_X9 hF.2.2.2.1 hK.1 (xs_one hH hi h) 0 rfl rfl 1 (by decide) (hF.2.2.2.2 _ hlink) (fun _ h => h) rfl hdg kk
theorem xs_g2 (hF : CallFix p m c cc nL s args lw_all own) (hK : xK ω s) (hH : xH ω (g, y, a, z, dr, pg, t) H) {i : Nat} (hi : i < tn t) (hlink : Cond.fieldLink own index "HurtStreets$Street" "length" "I" ∈ lw_all) (hdg : decode cc pc = .ok (.getfield index, 3)) (kk : W p l e R s m args below meth c H locs cells slots Q (F0 m (pc + 3) ls (.int (nI (tl t i)) :: rest))) : W p l e R s m args below meth c H locs cells slots Q (F0 m pc ls (.ref (tsa t i) :: rest)) := by
  rcases xs_kind hH hi with h | h | h | h | h
  · exact va_get hF.1 hF.2.1 hF.2.2.2.2 in_X5 hF.2.2.2.1 hK.1 (xs_one hH hi h) 0 rfl rfl 2 (by decide) (hF.2.2.2.2 _ hlink) (fun _ h => h) rfl hdg kk
  · exact va_get hF.1 hF.2.1 hF.2.2.2.2 in_X6 hF.2.2.2.1 hK.1 (xs_one hH hi h) 0 rfl rfl 2 (by decide) (hF.2.2.2.2 _ hlink) (fun _ h => h) rfl hdg kk
  · exact va_get hF.1 hF.2.1 hF.2.2.2.2 in_X7 hF.2.2.2.1 hK.1 (xs_one hH hi h) 0 rfl rfl 2 (by decide) (hF.2.2.2.2 _ hlink) (fun _ h => h) rfl hdg kk
  · exact va_get hF.1 hF.2.1 hF.2.2.2.2 in_X8 hF.2.2.2.1 hK.1 (xs_one hH hi h) 0 rfl rfl 2 (by decide) (hF.2.2.2.2 _ hlink) (fun _ h => h) rfl hdg kk
  · exact va_get hF.1 hF.2.1 hF.2.2.2.2 in_X9 hF.2.2.2.1 hK.1 (xs_one hH hi h) 0 rfl rfl 2 (by decide) (hF.2.2.2.2 _ hlink) (fun _ h => h) rfl hdg kk
/-- the list's own fields, its elements -/
theorem xl_g1 (hF : CallFix p m c cc nL s args lw_all RJ2) (hK : xK ω s) (hH : xH ω (g, y, a, z, dr, pg, t) H) (hlink : Cond.fieldLink "java/util/ArrayList" index "java/util/ArrayList" "elementData" "[Ljava/lang/Object;" ∈ lw_all) (hdg : decode cc pc = .ok (.getfield index, 3)) (kk : W p l e R s m args below meth c H locs cells slots Q (F0 m (pc + 3) ls (.ref (ted t) :: rest))) : W p l e R s m args below meth c H locs cells slots Q (F0 m pc ls (.ref (ω.2.1 1 99) :: rest)) :=
  va_get hF.1 hF.2.1 hF.2.2.2.2 in_J2 hF.2.2.2.1 hK.1 (gw_one (o := 1) (k := 99) hH.1 rfl rfl) 0 rfl rfl 1 (by decide) (hF.2.2.2.2 _ hlink) (fun _ h => h) rfl hdg kk
theorem xl_g2 (hF : CallFix p m c cc nL s args lw_all RJ2) (hK : xK ω s) (hH : xH ω (g, y, a, z, dr, pg, t) H) (hlink : Cond.fieldLink "java/util/ArrayList" index "java/util/ArrayList" "size" "I" ∈ lw_all) (hdg : decode cc pc = .ok (.getfield index, 3)) (kk : W p l e R s m args below meth c H locs cells slots Q (F0 m (pc + 3) ls (.int (nI (tn t)) :: rest))) : W p l e R s m args below meth c H locs cells slots Q (F0 m pc ls (.ref (ω.2.1 1 99) :: rest)) :=
  va_get hF.1 hF.2.1 hF.2.2.2.2 in_J2 hF.2.2.2.1 hK.1 (gw_one (o := 1) (k := 99) hH.1 rfl rfl) 0 rfl rfl 2 (by decide) (hF.2.2.2.2 _ hlink) (fun _ h => h) rfl hdg kk
theorem xl_ld (hF : CallFix p m c cc nL s args lw_all own) (hK : xK ω s) (hH : xH ω (g, y, a, z, dr, pg, t) H) {i : Nat} (hi : i < tn t) (hdg : decode cc pc = .ok (.aaload, 1)) (kk : W p l e R s m args below meth c H locs cells slots Q (F0 m (pc + 1) ls (.ref (tsa t i) :: rest))) : W p l e R s m args below meth c H locs cells slots Q (F0 m pc ls (.int (nI i) :: .ref (ted t) :: rest)) := by
  have hown : town t = true := hH.2.2.2.1 (by show 0 < tn t; omega)
  have hn9 : tn t ≤ 9 := hH.2.2.1
  have h1 := gw_one (o := 1) (k := 0) hH.1 (by show xI t 1 0 = true; simp [xI, hown]) rfl
  have hx : xad ω t 1 0 = ted t := rfl
  refine va_aldq (a := ted t) hF.1 hF.2.1 hK.1 h1 0 2 rfl rfl (nI_in (N := 10) (by omega) (by omega)) hdg ?_
  have e1 : (nI i).toNatClampNeg = i := nI_clamp (by omega)
  rw [e1]
  show W p l e R s m args below meth c H locs cells slots Q (F0 m (pc + 1) ls (va_rf (if i < tn t then some (tsa t i) else none) :: rest))
  rw [if_pos hi]
  exact kk
theorem x_recvL {ω : OM} {u : XS} {s : State} {H : Heap} (hK : xK ω s) (hH : xH ω u H) : ∃ cell : Cell, H[ω.2.1 1 99]? = some cell ∧ cell.vm.isStatics = false ∧ s.vm.findClass RJ2 = some cell.cls := va_recv hK.1 (gw_one (o := 1) (k := 99) hH.1 rfl rfl) (ci := 10) (q0 := 0) rfl rfl
theorem x_preVL {ω : OM} {u : XS} {s : State} {H : Heap} (hK : xK ω s) (hH : xH ω u H) {As : List Value} : PreV s H RJ2 (ω.2.1 1 99) (va_Pc (.ref (ω.2.1 1 99) :: As) (fun U => xK ω U ∧ xH ω u U.heap)) As := ⟨(x_pre hK hH).1, x_recvL hK hH, fun U hU hW => ⟨rfl, hK.warm hW, by rw [hU]; exact hH⟩⟩
theorem x_recvS {u : XS} {k : Nat} {q : vw_C} (hK : xK ω s) (hH : xH ω u H) {i : Nat} (hi : i < tn u.2.2.2.2.2.2) (hk : tk u.2.2.2.2.2.2 i = k) (hq : vwCl[5 + k]? = some q) : ∃ cell : Cell, H[tsa u.2.2.2.2.2.2 i]? = some cell ∧ cell.vm.isStatics = false ∧ s.vm.findClass q.1 = some cell.cls := va_recv hK.1 (xs_one hH hi hk) (ci := 5 + k) (q0 := 0) hq rfl
theorem x_preVS {u : XS} {k : Nat} {q : vw_C} (hK : xK ω s) (hH : xH ω u H) {i : Nat} (hi : i < tn u.2.2.2.2.2.2) (hk : tk u.2.2.2.2.2.2 i = k) (hq : vwCl[5 + k]? = some q) {As : List Value} : PreV s H q.1 (tsa u.2.2.2.2.2.2 i) (va_Pc (.ref (tsa u.2.2.2.2.2.2 i) :: As) (fun U => xK ω U ∧ xH ω u U.heap)) As := ⟨(x_pre hK hH).1, x_recvS hK hH hi hk hq, fun U hU hW => ⟨rfl, hK.warm hW, by rw [hU]; exact hH⟩⟩
theorem x_cast (hF : CallFix p m c cc nL s args lw_all own) (hK : xK ω s) (hH : xH ω (g, y, a, z, dr, pg, t) H) {i : Nat} (hi : i < tn t) (hlink : Cond.classLink own index "HurtStreets$Street" ∈ lw_all) (hdg : decode cc pc = .ok (.checkcast index, 3)) (kk : W p l e R s m args below meth c H locs cells slots Q (F0 m (pc + 3) ls (.ref (tsa t i) :: rest))) : W p l e R s m args below meth c H locs cells slots Q (F0 m pc ls (.ref (tsa t i) :: rest)) := by
  rcases xs_kind hH hi with h | h | h | h | h
  · exact va_castS hF.1 hF.2.1 hF.2.2.2.1 (hF.2.2.2.2 _ hlink) (hK.1.1 5 _ rfl).2 (x_recvS hK hH hi h rfl) hdg kk
  · exact va_castY hF.1 hF.2.1 hF.2.2.2.1 (hF.2.2.2.2 _ hlink) (xn_q1391 hK.2) (x_recvS hK hH hi h rfl) hdg kk
  · exact va_castY hF.1 hF.2.1 hF.2.2.2.1 (hF.2.2.2.2 _ hlink) (xn_q1392 hK.2) (x_recvS hK hH hi h rfl) hdg kk
  · exact va_castY hF.1 hF.2.1 hF.2.2.2.1 (hF.2.2.2.2 _ hlink) (xn_q1390 hK.2) (x_recvS hK hH hi h rfl) hdg kk
  · exact va_castY hF.1 hF.2.1 hF.2.2.2.1 (hF.2.2.2.2 _ hlink) (xn_q1389 hK.2) (x_recvS hK hH hi h rfl) hdg kk
/-- a call that keeps the heap, said of any way of calling -/
theorem g_runP {mc0 : Nat} {st0 : List Value} {av : Array Value} {post : Int32 → Prop} (hr : va_Run p l e R s m args below meth c H locs cells slots 0 0 (F0 m pc ls st0) rest (vp_Si post av) (fun _ => False)) (kk : ∀ r : Int32, post r → W p l e R s m args below meth c H locs cells slots Q (F0 m (pc + 3) ls (.int r :: rest))) : W p l e R s m args below meth c H locs cells slots Q (F0 m pc ls st0) :=
  vp_callSi (fun T hT X => by
    obtain ⟨v, st1, t1, T', L, h1, h2, h3, h4, -, h6, h7⟩ := hr T hT X
    exact ⟨v, st1, t1, T', L, h1, h2, h3, h4, h6, h7⟩) kk
end XR
section GREF
variable {l : Launch} {y : MethodName} {cc : ByteArray} {nL : Nat} {rm : Room} {av : List Value} {C rt : String}
/-- entry, heap kept, a reference that is known -/
theorem g_entPr {Kp : State → Prop} {q0 : Nat} (hC : y.cls = C) (hy : plainName C = true) (hlen : (lg_sl av).length ≤ nL)
    (body : ∀ (p : Program) (e : Env) (s : State) (m : MethodId) (args : Array Value) (below : List Frame) (meth : Method) (c : Code) (QQ : State → Prop) (ls : Array Slot), CallFix p m c cc nL s args lw_all C → Kp s → lv_has ls nL (lv_args 0 av) →
      (∀ (pc : Nat) (ls : Array Slot), decode cc pc = .ok (.areturn, 1) → W p l e rm s m args below meth c s.heap [] 0 0 QQ (F0 m pc ls [.ref q0])) →
      W p l e rm s m args below meth c s.heap [] 0 0 QQ (F0 m 0 ls [])) : Met l y (ws_ y cc nL (some (.object rt))) rm (va_Pc av Kp) (va_Sq (fun r => r = some q0)) 0 0 (fun _ => False) := by
  subst hC
  refine Met.ofW (cc := cc) (maxL := nL) (ret := some (.object rt)) hy rfl ?_
  intro p e s m args below meth c s₁ B hml hv
  obtain ⟨rfl, hk⟩ := hv
  have hts := atoms_spec (ws := ws_ y cc nL (some (.object rt))) B.pre
  have hts : ∀ w ∈ lw_all, w.before _ s = true := fun w h => hts w (List.mem_cons_of_mem _ h)
  rw [lg_entry_eq]
  exact body p e s m _ below meth c _ _ ⟨B.exec, B.bytes, hml, findClass_of_methodNamed B.named, hts⟩ hk (lv_entry av hlen) (fun pc ls hd => W.aret B.exec B.bytes B.returns (Or.inl ⟨_, rfl⟩) (Or.inr ⟨_, rfl⟩) (fun t ht _ => ⟨some q0, rfl, rfl, ht⟩) g_nil hd (hlocks := B.notSynchronized))
variable {p : Program} {e : Env} {R : Room} {s : State} {m : MethodId} {args : Array Value} {below : List Frame} {meth : Method} {c : Code} {H : Heap} {locs : List Loc} {cells slots : Nat} {Q : State → Prop}
variable {bytes : ByteArray} {maxL index : Nat} {ret : Option FieldType} {own host : String} {b : Addr} {As rest st0 : List Value} {pc : Nat} {ls : Array Slot} {Pc : Array Value → State → Prop}
theorem g_vPr {q0 : Nat} (hF : CallFix p m c cc nL s args lw_all own) (hM : Met l y (ws_ y bytes maxL ret) rm Pc (va_Sq (fun r => r = some q0)) 0 0 (fun _ => False)) (hG : GoodIn lw_all (wsV own index C y (ws_ y bytes maxL ret))) (n : Nat) (hd : y.cls = C ∧ y.cls ≠ "java/lang/invoke/MethodHandle" ∧ y.cls ≠ "java/lang/invoke/VarHandle" ∧ (parseMethodDescriptor y.desc).map (fun d => d.parameters.length) = some n) (hrc : rm.cells = 0) (hrs : rm.slots = 0) (hR : rm.frames + 1 ≤ R.frames ∧ 8 + (maxL + 11) + rm.locals ≤ R.locals) (hp : PreV s H C b Pc As) (hn : As.length = n) (hls : ls.size = nL) (hst : st0 = As.reverse ++ .ref b :: rest) (hW : (rest.map fun v => v.category).sum ≤ 8) (hdg : decode cc pc = .ok (.invokevirtual index, 3)) (hcap : cells ≤ R.cells ∧ slots ≤ R.slots)
    (kk : W p l e R s m args below meth c H locs cells slots Q (F0 m (pc + 3) ls (.ref q0 :: rest))) : W p l e R s m args below meth c H locs cells slots Q (F0 m pc ls st0) :=
  va_csq (W.runV (As := As) (rest := rest) hF hM (cwV n hF.2.2.2.2 hG rfl hrc hrs hd hR) hp rfl hn hls hst (lv_room hW) hdg hcap) (fun r hr => by rw [hr]; exact kk)
/-- a nest mate's static method -/
theorem g_sNPi {post : Int32 → Prop} (hF : CallFix p m c cc nL s args lw_all own) (hM : Met l y (ws_ y bytes maxL ret) rm Pc (vp_Si post) 0 0 (fun _ => False)) (hG : GoodIn lw_all (ws_ y bytes maxL ret)) (hN : va_Nw (.methodLinkNest own index y host) s) (hini : Cond.initialized y.cls ∈ lw_all) (hstat : Cond.static y ∈ lw_all) (n : Nat) (hd : y.cls ≠ "java/lang/invoke/MethodHandle" ∧ y.cls ≠ "java/lang/invoke/VarHandle" ∧ (parseMethodDescriptor y.desc).map (fun d => d.parameters.length) = some n) (hrc : rm.cells = 0) (hrs : rm.slots = 0) (hR : rm.frames + 1 ≤ R.frames ∧ 8 + (maxL + 11) + rm.locals ≤ R.locals) (hp : PreS s H Pc As) (hn : As.length = n) (hls : ls.size = nL) (hst : st0 = As.reverse ++ rest) (hW : (rest.map fun v => v.category).sum ≤ 8) (hdg : decode cc pc = .ok (.invokestatic index, 3)) (hcap : cells ≤ R.cells ∧ slots ≤ R.slots)
    (kk : ∀ r : Int32, post r → W p l e R s m args below meth c H locs cells slots Q (F0 m (pc + 3) ls (.int r :: rest))) : W p l e R s m args below meth c H locs cells slots Q (F0 m pc ls st0) :=
  g_runP (mc0 := 0) (va_runSN (As := As) (rest := rest) hF hM ⟨va_cnB n hF.2.2.2.2 hG rfl hrc hrs hN (hF.2.2.2.2 _ hini) hd hR, hF.2.2.2.2 _ hstat, trivial⟩ hp rfl hn hls hst (lv_room hW) hdg hcap) kk
end GREF
def jmax (x y : Int32) : Int32 := if x < y then y else x
def jmin (x y : Int32) : Int32 := if y < x then y else x
