/-! METHODS WITH HANDLERS: their entry, calls of them -/
set_option maxRecDepth 100000
section WW
variable {l : Launch} {y : MethodName} {cc : ByteArray} {nL : Nat} {rm : Room} {av : List Value} {C : String} {S : Type} {Kp : State → Prop} {Hp : S → Heap → Prop} {A : Nat → Prop} {mc ms : Nat} {hh : List (Nat × Nat × Nat × Nat)}
theorem ofWW {ws ws' : List Cond} {Pc : Array Value → State → Prop} {Qc : Array Value → State → Outcome → State → Prop} {free : Addr → Prop} {maxL : Nat} {ret : Option FieldType}
    (hy : plainName y.cls = true) (hw : ws = Cond.codeWith y cc maxL ret hh :: ws')
    (body : ∀ p e s m args below meth c s₁, BodyLoose p l y (headSpec ws rm) cc maxL ret e s m args below meth c s₁ → c.maxLocals = maxL → c.exceptionTable.toList.map (fun h => (h.startPc, h.endPc, h.handlerPc, h.catchType)) = hh → Pc args s →
      W p l e (headSpec ws rm).room s m args below meth c s.heap [] 0 0 (MQ below Qc args s mc ms free) (entryFrame m args maxL)) : Met l y ws rm Pc Qc mc ms free := by
  refine MetFree.of_bodyS (code := cc) (maxLocals := maxL) (ret := ret) hy ?_ ?_
  · intro args s m h hn
    obtain ⟨m', meth, c, h0, h1, h2, h3, h4, -, h5, h6, -⟩ := Cond.codeWith_spec (atoms_spec (ws := ws) h _ (by rw [hw]; exact List.mem_cons_self))
    cases hn.symm.trans h0
    exact ⟨meth, c, h1, h2, h3, h4, h5, h6⟩
  · intro p e s m args below meth c s₁ B hml hP _
    have hh0 : s₁.heap = s.heap := by rw [B.state]; rfl
    obtain ⟨m', meth', c', h0, h1, h2, -, -, h4, -, -, -⟩ := Cond.codeWith_spec (atoms_spec (ws := ws) B.pre _ (by rw [hw]; exact List.mem_cons_self))
    cases B.named.symm.trans h0
    cases B.method.symm.trans h1
    cases (Stand.of_body B).code.symm.trans h2
    obtain ⟨t, a1, o, b1, b2, b3⟩ := body p e s m args below meth c s₁ B hml h4 hP s₁ hh0 (Stand.of_body B)
    exact ⟨t, o, a1, b1, b2, ⟨b3.1, b3.2⟩⟩
theorem g_entWWi {post : Int32 → S → Prop} (hC : y.cls = C) (hy : plainName C = true) (hlen : (lg_sl av).length ≤ nL)
    (body : ∀ (p : Program) (e : Env) (s : State) (m : MethodId) (args : Array Value) (below : List Frame) (meth : Method) (c : Code) (QQ : State → Prop) (ls : Array Slot), CallFix p m c cc nL s args lw_all C → c.exceptionTable.toList.map (fun h => (h.startPc, h.endPc, h.handlerPc, h.catchType)) = hh → Kp s → lv_has ls nL (lv_args 0 av) →
      (∀ (pc : Nat) (ls : Array Slot) (v : Int32) (u : S) (H : Heap) (locs : List Loc), decode cc pc = .ok (.ireturn, 1) → post v u → Hp u H → va_S A s.heap H locs → W p l e rm s m args below meth c H locs mc ms QQ (F0 m pc ls [.int v])) →
      W p l e rm s m args below meth c s.heap [] 0 0 QQ (F0 m 0 ls [])) : Met l y (wsW_ y cc nL (some .int) hh) rm (va_Pc av Kp) (va_Qi post (fun u t => Hp u t.heap) A) mc ms A := by
  subst hC
  refine ofWW (maxL := nL) (ret := some .int) hy rfl ?_
  intro p e s m args below meth c s₁ B hml hhh hv
  obtain ⟨rfl, hk⟩ := hv
  have hts := atoms_spec (ws := wsW_ y cc nL (some .int) hh) B.pre
  have hts : ∀ w ∈ lw_all, w.before _ s = true := fun w h => hts w (List.mem_cons_of_mem _ h)
  rw [lg_entry_eq]
  exact body p e s m _ below meth c _ _ ⟨B.exec, B.bytes, hml, findClass_of_methodNamed B.named, hts⟩ hhh hk (lv_entry av hlen) (fun pc ls v u H locs hd hp hH hS => W.iret B.exec B.bytes B.returns (fun t ht _ => ⟨⟨v, u, rfl, hp, by show Hp u t.heap; rw [ht]; exact hH⟩, hS.F ht⟩) hS.2.2 hd (hlocks := B.notSynchronized))
end WW
section WB
variable {p : Program} {l : Launch} {e : Env} {R : Room} {s : State} {m : MethodId} {args : Array Value} {below : List Frame} {meth : Method} {c : Code} {H : Heap} {locs : List Loc} {cells slots : Nat} {Q : State → Prop}
variable {y : MethodName} {bytes cc : ByteArray} {maxL nL index mc ms : Nat} {ret : Option FieldType} {hh : List (Nat × Nat × Nat × Nat)} {rm : Room} {own C : String} {b : Addr} {As rest st0 : List Value} {pc : Nat} {ls : Array Slot} {Pc : Array Value → State → Prop} {Qc : Array Value → State → Outcome → State → Prop} {free : Addr → Prop} {S : Type} {Hp : S → Heap → Prop} {A : Nat → Prop}
theorem back_ofW {ws : List Cond} {W : Nat} (hM : Met l y ws rm Pc Qc mc ms free) (hblind : FrameBlind Pc) (hrc : rm.cells = mc) (hrs : rm.slots = ms)
    (hframes : rm.frames + 1 ≤ R.frames) (hlocals : W + (maxL + 11) + rm.locals ≤ R.locals)
    (hws : ∀ w ∈ ws, ∀ a' U, s.WarmedH U.vm → w.before a' U = true) (hcode : Cond.codeWith y bytes maxL ret hh ∈ ws) (hinit : ∀ a' U, s.WarmedH U.vm → (Cond.initialized y.cls).before a' U = true) :
    Back l R p e below s args y 3 W (PreOf R mc ms Pc) (PostOf Qc mc ms free) := by
  refine Jvm.Free.Back.of_freeWith (S := headSpec ws rm) (P := Pc) (K := fun _ _ _ _ _ => True) (Q := fun a st o t => Qc a st o t ∧ ∃ L, FrameEnd st o t L mc ms ∧ ∀ q ∈ L, free q.base) (bytes := bytes) (maxL := maxL) (ret := ret) (handlers := hh)
    (E := fun a st o t L k n => k = mc ∧ n = ms ∧ ∀ q ∈ L, free q.base) hM hframes hlocals ?_ ?_ (fun _ _ _ _ _ _ _ _ _ => trivial) ?_ ?_
  · intro m meth c A a X hp
    exact ⟨atoms_intro fun w hw => hws w hw _ _ X.warmed, hws _ hcode _ _ X.warmed, hinit _ _ X.warmed, by rw [show (headSpec ws rm).room.cells = mc from hrc]; exact hp.1, by rw [show (headSpec ws rm).room.slots = ms from hrs]; exact hp.2.1⟩
  · intro m meth c A a g mk X hp
    exact hblind _ _ _ _ hp.2.2
  · intro a st o t ⟨hq, L, hF, hL⟩
    exact ⟨L, mc, ms, hF, rfl, rfl, hL⟩
  · intro m meth c A a g mk v t L k n X hp hq hF ⟨e1, e2, hL⟩
    subst e1; subst e2
    exact ⟨g, mk, t, L, rfl, rfl, hq.1, rfl, hL, rfl, rfl⟩
theorem callVW {T : State} (X : Stand p l e R s m args below meth c T locs cells slots) (hexec : p.tables.exec = Jvm.exec)
    (hown : s.vm.findClass own = some m.cls) (hlink : (Cond.methodLink own index y).before args s = true) (hinst : (Cond.instanceMethod y).before args s = true) (hsel : (Cond.selects C y y).before args s = true)
    (hcode : (Cond.codeWith y bytes maxL ret hh).before args s = true) (hy : y.cls ≠ "java/lang/invoke/MethodHandle" ∧ y.cls ≠ "java/lang/invoke/VarHandle")
    {W : Nat} {Pre : Pt → Array Value → Prop} {Post : Pt → Array Value → Option Value → Pt → Prop} (hK : Back l R p e below s args y 3 W Pre Post)
    {cellB : Cell} (hcell : T.heap[b]? = some cellB) (hobj : cellB.vm.isStatics = false) (hcls : s.vm.findClass C = some cellB.cls)
    {g : JFrame} (hg : g.method = m) (hsize : g.locals.size = c.maxLocals) {argsL rest : List Value} (hlen : ∀ sig, parseMethodDescriptor y.desc = some sig → argsL.length = sig.parameters.length)
    (hstack : g.stack = argsL.reverse ++ .ref b :: rest) (hW : 2 * g.monitorRoom + (rest.map fun v => v.category).sum ≤ W) (hdg : decode c.code g.pc = .ok (.invokevirtual index, 3))
    (hpre : ∀ vm₁, s.WarmedH vm₁ → Pre ⟨T.setVm vm₁, locs, cells, slots⟩ (Value.ref b :: argsL).toArray) :
    ∃ (v : Option Value) (vm₁ : Vm) (B : Pt), s.WarmedH vm₁ ∧ Stand p l e R s m args below meth c B.U B.locs B.cells B.slots ∧ Post ⟨T.setVm vm₁, locs, cells, slots⟩ (Value.ref b :: argsL).toArray v B ∧
      ∀ target, Steps p.tables e below (B.U.setTop { g with pc := g.pc + 3, stack := v.toList ++ rest }) target → Steps p.tables e below (T.setTop g) target := by
  obtain ⟨mk, methM, hnamed, hmethM, hstM, habM⟩ := Cond.instanceMethod_spec hinst
  obtain ⟨mk', methM', cM, hnamed', hmethM', -, -, -, -, -, -, hsigM⟩ := Cond.codeWith_spec hcode
  cases hnamed.symm.trans hnamed'
  cases hmethM.symm.trans hmethM'
  obtain ⟨c2, r2, m2, q1, q2, q3, q4, kP, hkP, hkPi⟩ := Cond.selects_spec hsel
  cases hcls.symm.trans q1
  cases (State.methodFound?_of_named hnamed hy).symm.trans q2
  cases hnamed.symm.trans q3
  have hselP : selectMethod e.platform s.vm cellB.cls mk = .method mk := by rw [Launch.admits_selectMethod X.admits]; exact q4
  obtain ⟨vm₁, X₁, hstep₁⟩ := X.invokevirtual hexec hown hlink hnamed hmethM hstM hkP hkPi hy (a := b) (cell := cellB) hcell
    (fun z h => by rw [h] at hobj; cases hobj) hselP hmethM habM hkP hkPi (g := g) hg (argsL := argsL) (rest := rest) (hlen _ hsigM) hstack hdg
  obtain ⟨v, B, X', hpost, hsteps⟩ := hK m meth c ⟨T.setVm vm₁, locs, cells, slots⟩ { g with stack := rest } (.invokevirtual index) mk (Value.ref b :: argsL).toArray X₁ hg hsize hdg hW (X₁.named hnamed) (hpre vm₁ X₁.warmed)
  exact ⟨v, vm₁, B, X₁.warmed, X', hpost, fun target h => hstep₁ _ fun acts => by rw [doInvoke_state]; exact hsteps.trans h⟩
theorem va_runVW {g : JFrame} (hF : CallFix p m c cc nL s args lw_all own) (hM : Met l y (wsW_ y bytes maxL ret hh) rm Pc Qc mc ms free) (hG : GoodIn lw_all (wsV own index C y (wsW_ y bytes maxL ret hh))) (n : Nat) (hd : y.cls = C ∧ y.cls ≠ "java/lang/invoke/MethodHandle" ∧ y.cls ≠ "java/lang/invoke/VarHandle" ∧ (parseMethodDescriptor y.desc).map (fun d => d.parameters.length) = some n) (hrc : rm.cells = mc) (hrs : rm.slots = ms) (hR : rm.frames + 1 ≤ R.frames ∧ 8 + (maxL + 11) + rm.locals ≤ R.locals) (hp : PreV s H C b Pc As)
    (hg : g.method = m) (hn : As.length = n) (hsize : g.locals.size = nL) (hstack : g.stack = As.reverse ++ .ref b :: rest) (hW : 2 * g.monitorRoom + (rest.map fun v => v.category).sum ≤ 8) (hdg : decode cc g.pc = .ok (.invokevirtual index, 3)) (hf : cells + mc ≤ R.cells ∧ slots + ms ≤ R.slots) :
    va_Run p l e R s m args below meth c H locs cells slots mc ms g rest (Qc (Value.ref b :: As).toArray) (free) := by
  obtain ⟨hC, hd⟩ := hd
  subst hC
  have ok : ∀ w ∈ wsV own index y.cls y (wsW_ y bytes maxL ret hh), w.before args s = true := fun w h => hF.2.2.2.2 w (hG w h).1
  have hini : (Cond.initialized y.cls).before args s = true := ok _ (by simp [wsV])
  have hK : Back l R p e below s args y 3 8 (PreOf R mc ms Pc) (PostOf Qc mc ms free) := back_ofW (bytes := bytes) (maxL := maxL) (ret := ret) (hh := hh) hM hp.1 hrc hrs hR.1 hR.2 (pay_in hF.2.2.2.2 (fun w h => hG w (by unfold wsV; exact List.mem_append_right _ h))) List.mem_cons_self (fun a' U hW => word_at hW (Or.inl (by first | rfl | simp [Cond.onTables, Cond.keeps, Cond.steady])) hini)
  obtain ⟨hx, hb, hml, ho, -⟩ := hF
  obtain ⟨-, ⟨cellB, hcB, hoB, hclB⟩, hPc⟩ := hp
  intro T hT X
  obtain ⟨v, vm₁, ⟨U', l2, c2, s2⟩, hW₁, X', ⟨g', mk, t, L, e1, e2, hq, h1, hL, h2, h3⟩, st⟩ := callVW X hx (C := y.cls) (index := index) (own := own) (bytes := bytes) (maxL := maxL) (ret := ret) (hh := hh) ho (ok _ (by simp [wsV])) (ok _ (by simp [wsV])) (ok _ (by simp [wsV])) (ok _ (by simp [wsV])) ⟨hd.1, hd.2.1⟩ hK (by rw [hT]; exact hcB) hoB hclB hg (hsize.trans hml.symm) (argsL := As) (rest := rest) (fun sig h => by
      have h2 := hd.2.2
      rw [h] at h2
      exact hn.trans (Option.some.inj h2).symm) hstack hW (by rw [hb]; exact hdg)
    (fun vm₁ hW₁ => ⟨hf.1, hf.2, hPc (T.setVm vm₁) hT hW₁⟩)
  dsimp only [Pt.U, Pt.locs, Pt.cells, Pt.slots] at X' e1 e2 h1 h2 h3 st
  subst h1; subst h2; subst h3
  exact ⟨v, (T.setVm vm₁).calling g' mk (Value.ref b :: As).toArray, t, U', L, hT, X', hL, e1, e2, hq, st⟩
theorem g_vWWi {post : Int32 → S → Prop} (hF : CallFix p m c cc nL s args lw_all own) (hM : Met l y (wsW_ y bytes maxL ret hh) rm Pc (va_Qi post (fun u t => Hp u t.heap) A) mc ms A) (hG : GoodIn lw_all (wsV own index C y (wsW_ y bytes maxL ret hh))) (n : Nat) (hd : y.cls = C ∧ y.cls ≠ "java/lang/invoke/MethodHandle" ∧ y.cls ≠ "java/lang/invoke/VarHandle" ∧ (parseMethodDescriptor y.desc).map (fun d => d.parameters.length) = some n) (hrc : rm.cells = mc) (hrs : rm.slots = ms) (hR : rm.frames + 1 ≤ R.frames ∧ 8 + (maxL + 11) + rm.locals ≤ R.locals) (hp : PreV s H C b Pc As) (hn : As.length = n) (hls : ls.size = nL) (hst : st0 = As.reverse ++ .ref b :: rest) (hW : (rest.map fun v => v.category).sum ≤ 8) (hdg : decode cc pc = .ok (.invokevirtual index, 3)) (hcap : cells + mc ≤ R.cells ∧ slots + ms ≤ R.slots) (hS : va_S A s.heap H locs)
    (kk : ∀ (r : Int32) (u : S) (H : Heap) (locs : List Loc), post r u → Hp u H → va_S A s.heap H locs → W p l e R s m args below meth c H locs (cells + mc) (slots + ms) Q (F0 m (pc + 3) ls (.int r :: rest))) : W p l e R s m args below meth c H locs cells slots Q (F0 m pc ls st0) :=
  va_calli (va_runVW (As := As) (rest := rest) hF hM hG n hd hrc hrs hR hp rfl hn hls hst (lv_room hW) hdg hcap) hS (fun _ _ h => h) (fun _ h => h) (fun r u t H1 locs1 ht _ hpost hB _ _ hS1 => kk r u H1 locs1 hpost (by rw [← ht]; exact hB) hS1)
end WB
