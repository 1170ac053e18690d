/-! MAKING: entries and calls of constructors; worlds as lists of cells -/
set_option maxRecDepth 100000
section MK
variable {l : Launch} {y : MethodName} {cc : ByteArray} {nL : Nat} {rm : Room} {av : List Value} {C : String} {mc ms sz : Nat} {ω : OM} {ws0 : va_W} {Kp : State → Prop} {Wf : (Nat → Nat) → va_W}
theorem va_D_one {a : Nat} {ee : va_E} : va_D (va_A [(a, ee)] sz) [(a, ee)] := by
  refine ⟨fun i j p q hp hq _ => ?_, fun k q hq => Or.inl ⟨k, q.2, hq⟩⟩
  have h1 : i < 1 := (List.getElem?_eq_some_iff.mp hp).1
  have h2 : j < 1 := (List.getElem?_eq_some_iff.mp hq).1
  omega
/-- a constructor: it makes cells beside the one that it is given -/
def cPc (ω : OM) (av : List Value) (Kp : State → Prop) (sz : Nat) (ws0 : va_W) : Array Value → State → Prop := va_Pc av (fun U => Kp U ∧ U.heap.size = sz ∧ va_P ω.1 vwCl ws0 U.heap)
def cQc (ω : OM) (sz : Nat) (ws0 : va_W) (Wf : (Nat → Nat) → va_W) : Array Value → State → Outcome → State → Prop := va_Qv (fun (_ : Nat → Nat) => True) (fun w t => va_P ω.1 vwCl (Wf w) t.heap ∧ va_D (va_A ws0 sz) (Wf w)) (va_A ws0 sz)
theorem g_entC (hC : y.cls = C) (hy : plainName C = true) (hi : y.name = "<init>") (hlen : (lg_sl av).length ≤ nL)
    (body : ∀ (p : Program) (e : Env) (s : State) (m : MethodId) (args : Array Value) (below : List Frame) (meth : Method) (c : Code) (QQ : State → Prop) (ls : Array Slot) (H : Heap) (locs : List Loc), CallFix p m c cc nL s args lw_all C → meth.name = "<init>" → Kp s → s.heap.size = sz → va_P ω.1 vwCl ws0 H → va_S (va_A ws0 sz) s.heap H locs → lv_has ls nL (lv_args 0 av) →
      (∀ (pc : Nat) (ls : Array Slot) (w : Nat → Nat) (H : Heap) (locs : List Loc), decode cc pc = .ok (.return_, 1) → va_P ω.1 vwCl (Wf w) H → va_D (va_A ws0 sz) (Wf w) → va_S (va_A ws0 sz) s.heap H locs → W p l e rm s m args below meth c H locs mc ms QQ (F0 m pc ls [])) →
      W p l e rm s m args below meth c H locs 0 0 QQ (F0 m 0 ls [])) : Met l y (ws_ y cc nL none) rm (cPc ω av Kp sz ws0) (cQc ω sz ws0 Wf) mc ms (va_A ws0 sz) := by
  subst hC
  refine Met.ofW (cc := cc) (maxL := nL) (ret := none) hy rfl ?_
  intro p e s m args below meth c s₁ B hml hv
  obtain ⟨rfl, hk, hs, hh⟩ := hv
  have hts := atoms_spec (ws := ws_ y cc nL none) B.pre
  have hts : ∀ w ∈ lw_all, w.before _ s = true := fun w h => hts w (List.mem_cons_of_mem _ h)
  have hin : meth.name = "<init>" := by rw [← hi]; exact (name_of_methodNamed B.named B.method).1
  rw [lg_entry_eq]
  exact body p e s m _ below meth c _ _ _ _ ⟨B.exec, B.bytes, hml, findClass_of_methodNamed B.named, hts⟩ hin hk hs hh va_S.rf (lv_entry av hlen) (fun pc ls w H locs hd hP hD hS => W.vret B.exec B.bytes B.returns (fun t ht _ => ⟨⟨w, rfl, trivial, by show va_P ω.1 vwCl (Wf w) t.heap ∧ va_D (va_A ws0 sz) (Wf w); rw [ht]; exact ⟨hP, hD⟩⟩, hS.F ht⟩) hS.2.2 hd (hlocks := B.notSynchronized))
variable {p : Program} {e : Env} {R : Room} {s : State} {m : MethodId} {args : Array Value} {below : List Frame} {meth : Method} {c : Code} {H : Heap} {locs : List Loc} {cells slots : Nat} {Q : State → Prop}
variable {bytes : ByteArray} {maxL index : Nat} {own host : String} {b : Addr} {As rest st0 : List Value} {pc : Nat} {ls : Array Slot} {A : Nat → Prop} {ws wc wr : va_W}
/-- a constructor's call: its own cell is cut out, and what comes back is put beside the rest -/
theorem g_iC (hF : CallFix p m c cc nL s args lw_all own) (hM : Met l y (ws_ y bytes maxL none) rm (cPc ω (.ref b :: As) Kp H.size wc) (cQc ω H.size wc Wf) mc ms (va_A wc H.size)) (hG : GoodIn lw_all (ws_ y bytes maxL none)) (hl : Cond.methodLink own index y ∈ lw_all) (hini : Cond.initialized y.cls ∈ lw_all) (hin : Cond.instanceMethod y ∈ lw_all) (n : Nat) (hd : y.name = "<init>" ∧ y.cls ≠ "java/lang/invoke/MethodHandle" ∧ y.cls ≠ "java/lang/invoke/VarHandle" ∧ (parseMethodDescriptor y.desc).map (fun d => d.parameters.length) = some n) (hrc : rm.cells = mc) (hrs : rm.slots = ms) (hR : rm.frames + 1 ≤ R.frames ∧ 8 + (maxL + 11) + rm.locals ≤ R.locals)
    (hbl : ∀ (a : Array Value) (U : State) (g : JFrame) (mk : MethodId), Kp U → Kp (U.calling g mk a)) (hKp : ∀ U : State, U.heap = H → s.WarmedH U.vm → Kp U)
    (hP : va_P ω.1 vwCl ws H) (hD : va_D A ws) (hS : va_S A s.heap H locs) (hA : ∀ q, s.heap.size ≤ q → A q) (isC isR : List Nat) (hCc : isC.map (fun i => ws[i]?) = wc.map some) (hCf : isC.filterMap (fun i => ws[i]?) = wc) (hRr : isR.map (fun i => ws[i]?) = wr.map some) (hnd : va_nd isR = true) (hdis : ∀ i ∈ isR, i ∉ isC)
    (hn : As.length = n) (hls : ls.size = nL) (hst : st0 = As.reverse ++ .ref b :: rest) (hW : (rest.map fun v => v.category).sum ≤ 8) (hdg : decode cc pc = .ok (.invokespecial index, 3)) (hcap : cells + mc ≤ R.cells ∧ slots + ms ≤ R.slots)
    (kk : ∀ (w : Nat → Nat) (H : Heap) (locs : List Loc), va_P ω.1 vwCl (wr ++ Wf w) H → va_D A (wr ++ Wf w) → va_S A s.heap H locs → W p l e R s m args below meth c H locs (cells + mc) (slots + ms) Q (F0 m (pc + 3) ls rest)) : W p l e R s m args below meth c H locs cells slots Q (F0 m pc ls st0) := by
  have hfr := va_free hD hS hA isC hCc
  refine va_callv (va_runI (As := As) (rest := rest) hF hM (cwI n hF.2.2.2.2 hG rfl hrc hrs (hF.2.2.2.2 _ hini) (hF.2.2.2.2 _ hl) (hF.2.2.2.2 _ hin) hd.1 hd.2 hR) ⟨fun a U g mk q => ⟨q.1, hbl a U g mk q.2.1, q.2.2.1, q.2.2.2⟩, fun U hU hW => ⟨rfl, hKp U hU hW, by rw [hU], by rw [hU]; exact hP.sub isC hCf⟩⟩ rfl hn hls hst (lv_room hW) hdg hcap) hS (fun q _ h => hfr q h) hfr (fun w t H1 locs1 ht _ _ hB _ hk hS1 => ?_)
  rw [ht] at hB
  obtain ⟨j1, j2⟩ := va_join hP hD isC isR hCc hRr hnd hdis hk hfr hB.1 hB.2
  exact kk w H1 locs1 j1 j2 hS1
/-- the same of a nest mate -/
theorem g_iNC (hF : CallFix p m c cc nL s args lw_all own) (hM : Met l y (ws_ y bytes maxL none) rm (cPc ω (.ref b :: As) Kp H.size wc) (cQc ω H.size wc Wf) mc ms (va_A wc H.size)) (hG : GoodIn lw_all (ws_ y bytes maxL none)) (hl : va_Nw (.methodLinkNest own index y host) s) (hini : Cond.initialized y.cls ∈ lw_all) (hin : Cond.instanceMethod y ∈ lw_all) (n : Nat) (hd : y.name = "<init>" ∧ y.cls ≠ "java/lang/invoke/MethodHandle" ∧ y.cls ≠ "java/lang/invoke/VarHandle" ∧ (parseMethodDescriptor y.desc).map (fun d => d.parameters.length) = some n) (hrc : rm.cells = mc) (hrs : rm.slots = ms) (hR : rm.frames + 1 ≤ R.frames ∧ 8 + (maxL + 11) + rm.locals ≤ R.locals)
    (hbl : ∀ (a : Array Value) (U : State) (g : JFrame) (mk : MethodId), Kp U → Kp (U.calling g mk a)) (hKp : ∀ U : State, U.heap = H → s.WarmedH U.vm → Kp U)
    (hP : va_P ω.1 vwCl ws H) (hD : va_D A ws) (hS : va_S A s.heap H locs) (hA : ∀ q, s.heap.size ≤ q → A q) (isC isR : List Nat) (hCc : isC.map (fun i => ws[i]?) = wc.map some) (hCf : isC.filterMap (fun i => ws[i]?) = wc) (hRr : isR.map (fun i => ws[i]?) = wr.map some) (hnd : va_nd isR = true) (hdis : ∀ i ∈ isR, i ∉ isC)
    (hn : As.length = n) (hls : ls.size = nL) (hst : st0 = As.reverse ++ .ref b :: rest) (hW : (rest.map fun v => v.category).sum ≤ 8) (hdg : decode cc pc = .ok (.invokespecial index, 3)) (hcap : cells + mc ≤ R.cells ∧ slots + ms ≤ R.slots)
    (kk : ∀ (w : Nat → Nat) (H : Heap) (locs : List Loc), va_P ω.1 vwCl (wr ++ Wf w) H → va_D A (wr ++ Wf w) → va_S A s.heap H locs → W p l e R s m args below meth c H locs (cells + mc) (slots + ms) Q (F0 m (pc + 3) ls rest)) : W p l e R s m args below meth c H locs cells slots Q (F0 m pc ls st0) := by
  have hfr := va_free hD hS hA isC hCc
  refine va_callv (va_runIN (As := As) (rest := rest) hF hM ⟨va_cnB n hF.2.2.2.2 hG rfl hrc hrs hl (hF.2.2.2.2 _ hini) hd.2 hR, hd.1, hF.2.2.2.2 _ hin⟩ ⟨fun a U g mk q => ⟨q.1, hbl a U g mk q.2.1, q.2.2.1, q.2.2.2⟩, fun U hU hW => ⟨rfl, hKp U hU hW, by rw [hU], by rw [hU]; exact hP.sub isC hCf⟩⟩ rfl hn hls hst (lv_room hW) hdg hcap) hS (fun q _ h => hfr q h) hfr (fun w t H1 locs1 ht _ _ hB _ hk hS1 => ?_)
  rw [ht] at hB
  obtain ⟨j1, j2⟩ := va_join hP hD isC isR hCc hRr hnd hdis hk hfr hB.1 hB.2
  exact kk w H1 locs1 j1 j2 hS1
/-- a new array's class is the one that is known -/
theorem c_arrI {tys : List (ClassId × FieldType)} {D : va_G} {cl : List vw_C} {cA cB : ClassId} (hK : va_K D cl (tys ++ [(cA, .int)]) s) {i : Nat} (hi : tys[i]? = some (cB, .int)) : cA = cB := by
  have h1 : va_RA s cA .int := (hK.2 tys.length (cA, .int) (by simp)).2
  have h2 : va_RA s cB .int := (hK.2 i (cB, .int) (by rw [List.getElem?_append_left (List.getElem?_eq_some_iff.mp hi).1]; exact hi)).2
  exact Option.some.inj (Eq.trans (Eq.symm h1) h2)
theorem c_arrB {tys : List (ClassId × FieldType)} {D : va_G} {cl : List vw_C} {cA cB : ClassId} (hK : va_K D cl (tys ++ [(cA, .byte)]) s) {i : Nat} (hi : tys[i]? = some (cB, .byte)) : cA = cB := by
  have h1 : va_RA s cA .byte := (hK.2 tys.length (cA, .byte) (by simp)).2
  have h2 : va_RA s cB .byte := (hK.2 i (cB, .byte) (by rw [List.getElem?_append_left (List.getElem?_eq_some_iff.mp hi).1]; exact hi)).2
  exact Option.some.inj (Eq.trans (Eq.symm h1) h2)
theorem c_arrO {tys : List (ClassId × FieldType)} {D : va_G} {cl : List vw_C} {cA cB : ClassId} {C : String} (hK : va_K D cl (tys ++ [(cA, .object C)]) s) {i : Nat} (hi : tys[i]? = some (cB, .object C)) : cA = cB := by
  obtain ⟨_, _, _, _, _, h1⟩ : va_RA s cA (.object C) := (hK.2 tys.length (cA, .object C) (by simp)).2
  obtain ⟨_, _, _, _, _, h2⟩ : va_RA s cB (.object C) := (hK.2 i (cB, .object C) (by rw [List.getElem?_append_left (List.getElem?_eq_some_iff.mp hi).1]; exact hi)).2
  exact Option.some.inj (Eq.trans (Eq.symm h1) h2)
end MK
/-- ArrayList's static empty array -/
def zE (e0 : Nat) (A : Nat → Prop) (U : State) : Prop := va_Z "java/util/ArrayList" "DEFAULTCAPACITY_EMPTY_ELEMENTDATA" "[Ljava/lang/Object;" (.ref e0) A U U.heap
theorem zE.call {e0 : Nat} {A : Nat → Prop} {U : State} {g : JFrame} {mk : MethodId} {a : Array Value} (h : zE e0 A U) : zE e0 A (U.calling g mk a) := va_Z.moved (u := U) (U := U.calling g mk a) (Vm.Alike.refl U.vm) h
theorem zE.to {e0 : Nat} {A B : Nat → Prop} {s U : State} {locs : List Loc} (h : zE e0 A s) (hS : va_S A s.heap U.heap locs) (hW : s.WarmedH U.vm) (hAB : ∀ q, B q → A q) : zE e0 B U := ((va_Z.moved (U := U) hW.alike h).kept hS.2.1).narrow hAB
