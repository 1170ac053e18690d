/-! THROWS: rows. MQT: a method's end, however it ends; WT: an exception is on its way through a frame -/
set_option maxRecDepth 100000
section TR
variable {p : Program} {l : Launch} {e : Env} {R : Room} {s : State} {m : MethodId} {args : Array Value} {below : List Frame} {meth : Method} {c : Code} {H : Heap} {locs : List Loc} {cells slots : Nat} {Q : State → Prop}
def MQT (below : List Frame) (Qc : Array Value → State → Outcome → State → Prop) (a : Array Value) (s : State) (mc ms : Nat) (free : Addr → Prop) : State → Prop := fun t =>
  ∃ o, t.status = .running ∧ Ended t below o ∧ Qc a s o t ∧ ∃ L, FrameEndT s t L mc ms ∧ ∀ q ∈ L, free q.base
theorem MetT.ofW {y : MethodName} {ws ws' : List Cond} {rm : Room} {Pc : Array Value → State → Prop} {Qc : Array Value → State → Outcome → State → Prop} {mc ms : Nat} {free : Addr → Prop} {cc : ByteArray} {maxL : Nat} {ret : Option FieldType}
    (hy : plainName y.cls = true) (hw : ws = Cond.code y cc maxL ret :: ws')
    (body : ∀ p e s m args below meth c s₁, BodyLoose p l y (headSpec ws rm) cc maxL ret e s m args below meth c s₁ → c.maxLocals = maxL → Pc args s →
      W p l e (headSpec ws rm).room s m args below meth c s.heap [] 0 0 (MQT below Qc args s mc ms free) (entryFrame m args maxL)) : MetT l y ws rm Pc Qc mc ms free := by
  refine MetFree.of_bodyS (code := cc) (maxLocals := maxL) (ret := ret) hy ?_ ?_
  · intro args s m h hn
    obtain ⟨meth, c, h1, h2, h3, h4, h5, h6, -, -⟩ := Cond.code_spec hn (atoms_spec (ws := ws) h _ (by rw [hw]; exact List.mem_cons_self))
    exact ⟨meth, c, h1, h2, h3, h4, h5, h6⟩
  · intro p e s m args below meth c s₁ B hml hP _
    have hh0 : s₁.heap = s.heap := by rw [B.state]; rfl
    obtain ⟨t, a1, o, b1, b2, b3⟩ := body p e s m args below meth c s₁ B hml hP s₁ hh0 (Stand.of_body B)
    exact ⟨t, o, a1, b1, b2, ⟨b3.1, b3.2⟩⟩
theorem W.toT {Qc : Array Value → State → Outcome → State → Prop} {mc ms : Nat} {free : Addr → Prop} {g : JFrame} (h : W p l e R s m args below meth c H locs cells slots (MQ below Qc args s mc ms free) g) : W p l e R s m args below meth c H locs cells slots (MQT below Qc args s mc ms free) g := by
  intro T hT X
  obtain ⟨t, a, o, b1, b2, b3, L, b4, b5⟩ := h T hT X
  exact ⟨t, a, o, b1, b2, b3, L, b4.2, b5⟩
/-- an exception q goes through the frame g -/
def WT (p : Program) (l : Launch) (e : Env) (R : Room) (s : State) (m : MethodId) (args : Array Value) (below : List Frame) (meth : Method) (c : Code) (H : Heap) (locs : List Loc) (cells slots : Nat) (Q : State → Prop) (q : Addr) (g : JFrame) : Prop :=
  ∀ T : State, T.heap = H → Stand p l e R s m args below meth c T locs cells slots → ∃ t, Steps p.tables e below ((T.setTop g).pushFrame (.throwing q)) t ∧ Q t
/-- it leaves the method -/
theorem WT.leave {Qc : Array Value → State → Outcome → State → Prop} {free : Addr → Prop} {q : Addr} {pc : Nat} {ls : Array Slot} {st : List Value} (hout : c.exceptionTable.isEmpty = true) (hlocks : meth.locks = false)
    (hq : ∀ t : State, t.heap = H → s.WarmedH t.vm → Qc args s (.threw q) t) (hf : ∀ r ∈ locs, free r.base) : WT p l e R s m args below meth c H locs cells slots (MQT below Qc args s cells slots free) q (F0 m pc ls st) := by
  intro T hT X
  obtain ⟨st, h1, h2, h3, h4⟩ := X.leaveThrown q (g := F0 m pc ls st) rfl rfl rfl (fun x hx => by
    have h0 : c.exceptionTable.toList = [] := by rw [Array.isEmpty_iff] at hout; rw [hout]
    rw [h0] at hx; cases hx) hlocks
  exact ⟨_, st, .threw q, h1, h2, hq _ hT h3, locs, ⟨h3, h4⟩, hf⟩
/-- athrow that leaves the method -/
theorem W.athrowOut {cc : ByteArray} {Qc : Array Value → State → Outcome → State → Prop} {free : Addr → Prop} {q : Addr} {pc : Nat} {ls : Array Slot} {rest : List Value} (hexec : p.tables.exec = Jvm.exec) (hb : c.code = cc) (hout : c.exceptionTable.isEmpty = true) (hlocks : meth.locks = false)
    (hq : ∀ t : State, t.heap = H → s.WarmedH t.vm → Qc args s (.threw q) t) (hf : ∀ r ∈ locs, free r.base) (hdg : decode cc pc = .ok (.athrow, 1)) : W p l e R s m args below meth c H locs cells slots (MQT below Qc args s cells slots free) (F0 m pc ls (.ref q :: rest)) := by
  intro T hT X
  obtain ⟨st, h1, h2, h3, h4⟩ := X.athrowLeaves hexec (g := F0 m pc ls (.ref q :: rest)) rfl rfl rfl (fun x hx => by
    have h0 : c.exceptionTable.toList = [] := by rw [Array.isEmpty_iff] at hout; rw [hout]
    rw [h0] at hx; cases hx) rfl (by rw [hb]; exact hdg) hlocks
  exact ⟨_, st, .threw q, h1, h2, hq _ hT h3, locs, ⟨h3, h4⟩, hf⟩
end TR
/-! the search of a handler whose class may not be resolved yet -/
section TC
variable {E : CtlPost} {e : Env} {d : Bool} {acts : List Action} {s : State} {f : JFrame} {a : Addr} {Q : Handler → Bool → List Action → State → Prop}
theorem t_go_cold {x : ExceptionTableEntry} {t : List ExceptionTableEntry} {c : ClassId} {vm' : Vm} {cell : Cell} (hx : covers x f.pc = true) (h0 : x.catchType ≠ 0)
    (hg : (Jvm.resolveClass f.method.cls x.catchType).Gives e.toSetting s.vm (.ok c) vm') (hsz : vm'.classes.size ≤ s.vm.classes.size) (hcell : s.heap[a]? = some cell) (hobj : ∀ k, cell.vm ≠ .statics k)
    (hk : ∃ k, vm'.classes[cell.cls]? = some k) (hc : ∃ k, vm'.classes[c]? = some k) (hfit : vm'.assignable cell.cls c = true) :
    Sem.wp (findHandler.go f a (x :: t)) Q E e d acts s ↔ Q (.found x.handlerPc) d acts (s.setVm vm') := by
  obtain ⟨ha, ht⟩ := hg.op (op := VmOp.resolveClass f.method.cls x.catchType) rfl
  simp only [covers] at hx
  have e1 : (s.setVm vm').heap = s.heap := rfl
  have e2 : (s.setVm vm').vm = vm' := rfl
  simp [findHandler.go, hx, h0, ha, ht, hsz, hcell, hobj, hk, hc, hfit, VmOp.dirties, VmOp.acts]
def FindsTo (e : Env) (s : State) (f : JFrame) (a : Addr) (h : Handler) (s' : State) : Prop :=
  ∀ (Q : Handler → Bool → List Action → State → Prop) (E : CtlPost) (d : Bool) (acts : List Action), Sem.wp (findHandler f a) Q E e d acts s ↔ Q h d acts s'
theorem t_step_catch {s' : State} {r : List Frame} {pc : Nat} (hfind : FindsTo e s f a (.found pc) s') :
    (stepThrowing e s a (.java f :: r)).Is (s'.setFrames (.java { f with pc := pc, stack := [.ref a] } :: r)) [] := by
  simp only [stepThrowing, searchFrame, vmDo]
  generalize hr : Sem.go _ e false [] s = res
  obtain ⟨as, rfl, ha⟩ := Sem.eq_ok_of hr (a := Handler.found pc) (s' := s') (acts' := []) (by simp [hfind _ _ _ _])
  exact ⟨rfl, ha⟩
theorem t_caught {tb : Tables} {T target : State} {g : JFrame} {c : Code} {below : List Frame} {vm' : Vm} (h : At T g.method c below) {pc : Nat} (hfind : FindsTo e ((T.setTop g).pushFrame (.throwing a)) g a (.found pc) (((T.setTop g).pushFrame (.throwing a)).setVm vm'))
    (hrest : Steps tb e below ((T.setVm vm').setTop { g with pc := pc, stack := [.ref a] }) target) :
    Steps tb e below ((T.setTop g).pushFrame (.throwing a)) target := by
  obtain ⟨hgo, hw⟩ := h.throwing a
  refine Steps.head hgo hw ?_
  rw [stepThread_throwing (frames_entered h.top _), (t_step_catch (s := (T.setTop g).pushFrame (.throwing a)) hfind).1]
  obtain ⟨g₀, hg⟩ := Option.isSome_iff_exists.mp h.top
  obtain ⟨r, hr⟩ := State.topJava?_eq_some.mp hg
  have hr' : (T.setVm vm').frames = .java g₀ :: r := hr
  rw [State.setTop_of_frames _ hr'] at hrest
  have e1 : (((T.setTop g).pushFrame (.throwing a)).setVm vm').setFrames (.java { g with pc := pc, stack := [.ref a] } :: T.frames.tail) = (T.setVm vm').setFrames (.java { g with pc := pc, stack := [.ref a] } :: r) := by
    have e0 : (T.setTop g).pushFrame (.throwing a) = T.setFrames (.throwing a :: .java g :: r) := by
      rw [State.pushFrame, State.frames_setTop _ hr, State.setTop_of_frames _ hr, State.setFrames_setFrames]
    rw [e0, hr]
    show ((T.setVm vm').setFrames (.throwing a :: .java g :: r)).setFrames _ = _
    rw [State.setFrames_setFrames]
    rfl
  rw [e1]
  exact hrest
end TC
section TK
variable {p : Program} {l : Launch} {e : Env} {R : Room} {s : State} {m : MethodId} {args : Array Value} {below : List Frame} {meth : Method} {c : Code} {H : Heap} {locs : List Loc} {cells slots : Nat} {Q : State → Prop}
/-- it is caught by the method's only handler -/
theorem WT.caught {own C : String} {q : Addr} {pc a0 b0 h0 index : Nat} {ls : Array Slot} {st : List Value} (hh : c.exceptionTable.toList.map (fun h => (h.startPc, h.endPc, h.handlerPc, h.catchType)) = [(a0, b0, h0, index)]) (hr : a0 ≤ pc ∧ pc < b0) (hi : index ≠ 0)
    (hown : s.vm.findClass own = some m.cls) (hlink : (Cond.classLink own index C).before args s = true) (hK : ∃ kC : Class, ∃ cC : ClassId, ClassAt s C cC) (hq : ∃ cell : Cell, H[q]? = some cell ∧ cell.vm.isStatics = false ∧ s.vm.findClass C = some cell.cls)
    (kk : W p l e R s m args below meth c H locs cells slots Q (F0 m h0 ls [.ref q])) : WT p l e R s m args below meth c H locs cells slots Q q (F0 m pc ls st) := by
  intro T hT X
  obtain ⟨cell, hc1, hc2, hc3⟩ := hq
  have hpl : e.platform.magicAccessors = ({} : Platform).magicAccessors := by rw [X.admits.platform]
  obtain ⟨c', hc', hcl⟩ := Cond.classLink_spec hown hlink e.platform hpl
  cases hc3.symm.trans hc'
  obtain ⟨dk, _, _, kt, hd, _, _, _, _, hkt, _, hopen⟩ := hcl.here
  have hcl₀ := X.warmed.classLinks hcl
  have hW' : s.WarmedH (T.vm.noted m.cls index (.cls cell.cls)) := X.warmed.noted hd hopen (State.rightAt_cls hcl)
  obtain ⟨kt', hkt', -⟩ := hW'.alike.2.2 _ _ hkt
  obtain ⟨_, cC, hcC⟩ := hK
  have hasg : s.vm.assignable cell.cls cell.cls = true := by
    have := va_assign hcC
    have e0 : cC = cell.cls := Option.some.inj (hcC.1.symm.trans hc3)
    rw [e0] at this
    exact this
  obtain ⟨t, a1, b1⟩ := kk (T.setVm (T.vm.noted m.cls index (.cls cell.cls))) hT (X.noted hW')
  refine ⟨t, ?_, b1⟩
  obtain ⟨x, hx, hxv⟩ : ∃ x, c.exceptionTable.toList = [x] ∧ (x.startPc, x.endPc, x.handlerPc, x.catchType) = (a0, b0, h0, index) := by
    cases hl : c.exceptionTable.toList with
    | nil => rw [hl] at hh; cases hh
    | cons x tl =>
      rw [hl] at hh
      cases tl with
      | nil => exact ⟨x, rfl, (List.cons.inj hh).1⟩
      | cons _ _ => simp at hh
  simp only [Prod.mk.injEq] at hxv
  obtain ⟨x1, x2, x3, x4⟩ := hxv
  refine t_caught (vm' := T.vm.noted m.cls index (.cls cell.cls)) X.here (pc := h0) ?_ a1
  intro Q E d acts
  have hm' : ((T.setTop (F0 m pc ls st)).pushFrame (.throwing q)).vm.method? m = some meth := by rw [Stand.throwing_vm]; exact X.method'
  rw [W.findHandler_eq hm' X.code, hx]
  rw [t_go_cold (s := (T.setTop (F0 m pc ls st)).pushFrame (.throwing q)) (c := cell.cls) (cell := cell) (vm' := T.vm.noted m.cls index (.cls cell.cls)) ?_ ?_ ?_ ?_ ?_ ?_ ?_ ?_ ?_]
  · rw [x3]
  · show (decide (x.startPc ≤ pc) && decide (pc < x.endPc)) = true
    rw [x1, x2]
    simp [hr.1, hr.2]
  · rw [x4]; exact hi
  · rw [x4, Stand.throwing_vm]; exact resolveClass_links e.toSetting hcl₀
  · rw [Stand.throwing_vm]; no_record
  · rw [Stand.throwing_heap, hT]; exact hc1
  · intro k hk; rw [hk] at hc2; cases hc2
  · exact ⟨_, hkt'⟩
  · exact ⟨_, hkt'⟩
  · rw [hW'.alike.assignable]; exact hasg
end TK
