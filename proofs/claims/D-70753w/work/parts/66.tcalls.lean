/-! THROWS: calls of methods that may throw; the reader's words -/
set_option maxRecDepth 100000
def va_QT {S : Type} (post : Outcome → S → Prop) (B : S → State → Prop) (A : Nat → Prop) : Array Value → State → Outcome → State → Prop := fun _ st oc t => (∃ u : S, post oc u ∧ B u t) ∧ va_F A st t
section TV
variable {p : Program} {l : Launch} {e : Env} {R : Room} {s : State} {m : MethodId} {args : Array Value} {below : List Frame} {meth : Method} {c : Code} {T : State} {locs : List Loc} {cells slots : Nat}
theorem callVT (X : Stand p l e R s m args below meth c T locs cells slots) (hexec : p.tables.exec = Jvm.exec) {own C : String} {index : Nat} {y : MethodName} {bytes : ByteArray} {maxL : Nat} {ret : Option FieldType}
    (hown : s.vm.findClass own = some m.cls) (hlink : (Cond.methodLink own index y).before args s = true) (hinst : (Cond.instanceMethod y).before args s = true) (hsel : (Cond.selects C y y).before args s = true)
    (hcode : (Cond.code y bytes maxL ret).before args s = true) (hy : y.cls ≠ "java/lang/invoke/MethodHandle" ∧ y.cls ≠ "java/lang/invoke/VarHandle")
    {W : Nat} {Pre : Pt → Array Value → Prop} {Post : Pt → Array Value → Outcome → Pt → Prop} (hK : BackT l R p e below s args y 3 W Pre Post)
    {b : Addr} {cellB : Cell} (hcell : T.heap[b]? = some cellB) (hobj : cellB.vm.isStatics = false) (hcls : s.vm.findClass C = some cellB.cls)
    {g : JFrame} (hg : g.method = m) (hsize : g.locals.size = c.maxLocals) {argsL rest : List Value} (hlen : ∀ sig, parseMethodDescriptor y.desc = some sig → argsL.length = sig.parameters.length)
    (hstack : g.stack = argsL.reverse ++ .ref b :: rest) (hW : 2 * g.monitorRoom + (rest.map fun v => v.category).sum ≤ W) (hdg : decode c.code g.pc = .ok (.invokevirtual index, 3))
    (hpre : ∀ vm₁, s.WarmedH vm₁ → Pre ⟨T.setVm vm₁, locs, cells, slots⟩ (Value.ref b :: argsL).toArray) :
    ∃ (o : Outcome) (vm₁ : Vm) (B : Pt), s.WarmedH vm₁ ∧ Stand p l e R s m args below meth c B.U B.locs B.cells B.slots ∧ Post ⟨T.setVm vm₁, locs, cells, slots⟩ (Value.ref b :: argsL).toArray o B ∧
      ∀ target, Steps p.tables e below (AfterT { g with stack := rest } 3 o B.U) target → Steps p.tables e below (T.setTop g) target := by
  obtain ⟨mk, methM, hnamed, hmethM, hstM, habM⟩ := Cond.instanceMethod_spec hinst
  obtain ⟨methM', cM, hmethM', -, -, -, -, -, -, hsigM⟩ := Cond.code_spec hnamed hcode
  cases hmethM.symm.trans hmethM'
  obtain ⟨c2, r2, m2, q1, q2, q3, q4, kP, hkP, hkPi⟩ := Cond.selects_spec hsel
  cases hcls.symm.trans q1
  cases (State.methodFound?_of_named hnamed hy).symm.trans q2
  cases hnamed.symm.trans q3
  have hselP : selectMethod e.platform s.vm cellB.cls mk = .method mk := by rw [Launch.admits_selectMethod X.admits]; exact q4
  obtain ⟨vm₁, X₁, hstep₁⟩ := X.invokevirtual hexec hown hlink hnamed hmethM hstM hkP hkPi hy (a := b) (cell := cellB) hcell
    (fun z h => by rw [h] at hobj; cases hobj) hselP hmethM habM hkP hkPi (g := g) hg (argsL := argsL) (rest := rest) (hlen _ hsigM) hstack hdg
  obtain ⟨o, B, X', hpost, hsteps⟩ := hK m meth c ⟨T.setVm vm₁, locs, cells, slots⟩ { g with stack := rest } (.invokevirtual index) mk (Value.ref b :: argsL).toArray X₁ hg hsize hdg hW (X₁.named hnamed) (hpre vm₁ X₁.warmed)
  exact ⟨o, vm₁, B, X₁.warmed, X', hpost, fun target h => hstep₁ _ fun acts => by rw [doInvoke_state]; exact hsteps.trans h⟩
end TV
section TG
variable {p : Program} {l : Launch} {e : Env} {R : Room} {s : State} {m : MethodId} {args : Array Value} {below : List Frame} {meth : Method} {c : Code} {H : Heap} {locs : List Loc} {cells slots : Nat} {Q : State → Prop}
variable {y : MethodName} {bytes cc : ByteArray} {maxL nL index mc ms : Nat} {ret : Option FieldType} {rm : Room} {own C : String} {b : Addr} {As rest st0 : List Value} {pc : Nat} {ls : Array Slot} {Pc : Array Value → State → Prop} {S : Type} {Hp : S → Heap → Prop} {A : Nat → Prop}
/-- how a call that may throw goes on -/
def AftT (p : Program) (l : Launch) (e : Env) (R : Room) (s : State) (m : MethodId) (args : Array Value) (below : List Frame) (meth : Method) (c : Code) (H : Heap) (locs : List Loc) (cells slots : Nat) (Q : State → Prop) (pc : Nat) (ls : Array Slot) (rest : List Value) (o : Outcome) : Prop := match o with
  | .returned v => W p l e R s m args below meth c H locs cells slots Q (F0 m (pc + 3) ls (v.toList ++ rest))
  | .threw q => WT p l e R s m args below meth c H locs cells slots Q q (F0 m pc ls rest)
theorem g_vT {post : Outcome → S → Prop} (hF : CallFix p m c cc nL s args lw_all own) (hM : MetT l y (ws_ y bytes maxL ret) rm Pc (va_QT post (fun u t => Hp u t.heap) A) mc ms A) (hG : GoodIn lw_all (wsV own index C y (ws_ y bytes maxL ret))) (n : Nat) (hd : y.cls = C ∧ y.cls ≠ "java/lang/invoke/MethodHandle" ∧ y.cls ≠ "java/lang/invoke/VarHandle" ∧ (parseMethodDescriptor y.desc).map (fun d => d.parameters.length) = some n) (hrc : rm.cells = mc) (hrs : rm.slots = ms) (hR : rm.frames + 1 ≤ R.frames ∧ 8 + (maxL + 11) + rm.locals ≤ R.locals) (hp : PreV s H C b Pc As) (hn : As.length = n) (hls : ls.size = nL) (hst : st0 = As.reverse ++ .ref b :: rest) (hW : (rest.map fun v => v.category).sum ≤ 8) (hdg : decode cc pc = .ok (.invokevirtual index, 3)) (hcap : cells + mc ≤ R.cells ∧ slots + ms ≤ R.slots) (hS : va_S A s.heap H locs)
    (kk : ∀ (o : Outcome) (u : S) (H : Heap) (locs : List Loc), post o u → Hp u H → va_S A s.heap H locs → AftT p l e R s m args below meth c H locs (cells + mc) (slots + ms) Q pc ls rest o) : W p l e R s m args below meth c H locs cells slots Q (F0 m pc ls st0) := by
  have cw := cwV (rm := rm) (mc := mc) (ms := ms) (R := R) (args := args) (s := s) n hF.2.2.2.2 hG rfl hrc hrs hd hR
  obtain ⟨⟨-, -, hfr, hlo, hws, hcw, hcode, hini, hy, hlen, hl⟩, hin, hse⟩ := cw
  have hK : BackT l R p e below s args y 3 8 (PreOf R mc ms Pc) (PostT (va_QT post (fun u t => Hp u t.heap) A) mc ms A) :=
    BackT.of (bytes := bytes) (maxL := maxL) (ret := ret) hM hp.1 hrc hrs hfr hlo hws hcw (fun a' U hW => word_at hW (Or.inl (by first | rfl | simp [Cond.onTables, Cond.keeps, Cond.steady])) hini)
  obtain ⟨hx, hb, hml, ho, -⟩ := hF
  obtain ⟨-, ⟨cellB, hcB, hoB, hclB⟩, hPc⟩ := hp
  intro T hT X
  obtain ⟨o, vm₁, ⟨U', l2, c2, s2⟩, hW₁, X', ⟨g', mk, t, L, e1, e2, hq, h1, hL, h2, h3⟩, st⟩ := callVT X hx (C := C) (bytes := bytes) (maxL := maxL) (ret := ret) ho hl hin hse hcode hy hK (by rw [hT]; exact hcB) hoB hclB (g := F0 m pc ls st0) rfl (hls.trans hml.symm) (argsL := As) (rest := rest) (fun sig h => hn.trans (hlen sig h)) hst (lv_room hW) (by rw [hb]; exact hdg)
    (fun vm₁ hW₁ => ⟨hcap.1, hcap.2, hPc (T.setVm vm₁) hT hW₁⟩)
  dsimp only [Pt.U, Pt.locs, Pt.cells, Pt.slots] at X' e1 e2 h1 h2 h3 st
  subst h1; subst h2; subst h3
  obtain ⟨⟨u, hpost, hB⟩, hz, hk⟩ := hq
  have h0 : ((T.setVm vm₁).calling g' mk (Value.ref b :: As).toArray).heap = H := hT
  rw [h0] at hz hk
  have hS1 : va_S A s.heap U'.heap (locs ++ L) := ⟨Nat.le_trans hS.1 (by rw [e1]; exact hz), fun q h1 h2 => by rw [e1, hk q (Nat.lt_of_lt_of_le h1 hS.1) h2]; exact hS.2.1 q h1 h2, fun q hq => by
      rcases List.mem_append.mp hq with h | h
      · exact hS.2.2 q h
      · exact hL q h⟩
  have k0 := kk o u U'.heap (locs ++ L) hpost (by rw [e1]; exact hB) hS1
  cases o with
  | returned v =>
    obtain ⟨t2, a1, b1⟩ := k0 U' rfl X'
    exact ⟨t2, st t2 a1, b1⟩
  | threw q =>
    obtain ⟨t2, a1, b1⟩ := k0 U' rfl X'
    exact ⟨t2, st t2 a1, b1⟩
end TG
section TE
variable {l : Launch} {y : MethodName} {cc : ByteArray} {nL : Nat} {rm : Room} {av : List Value} {C : String} {ret : Option FieldType}
variable {S : Type} {Kp : State → Prop} {Hp : S → Heap → Prop} {u0 : S} {A : Nat → Prop} {mc ms : Nat}
/-- what a throwing method's walk may end with -/
def EndsT (p : Program) (l : Launch) (e : Env) (rm : Room) (s : State) (m : MethodId) (args : Array Value) (below : List Frame) (meth : Method) (c : Code) (cc : ByteArray) (mc ms : Nat) (QQ : State → Prop) (A : Nat → Prop) (ret : Option FieldType) (Hp : S → Heap → Prop) (post : Outcome → S → Prop) : Prop :=
  (∀ (pc : Nat) (ls : Array Slot) (v : Int32) (u : S) (H : Heap) (locs : List Loc), ret = some .int → decode cc pc = .ok (.ireturn, 1) → post (.returned (some (.int v))) u → Hp u H → va_S A s.heap H locs → W p l e rm s m args below meth c H locs mc ms QQ (F0 m pc ls [.int v])) ∧
  (∀ (pc : Nat) (ls : Array Slot) (u : S) (H : Heap) (locs : List Loc), ret = none → decode cc pc = .ok (.return_, 1) → post (.returned none) u → Hp u H → va_S A s.heap H locs → W p l e rm s m args below meth c H locs mc ms QQ (F0 m pc ls [])) ∧
  (∀ (pc : Nat) (ls : Array Slot) (q : Nat) (rt : String) (u : S) (H : Heap) (locs : List Loc), ret = some (.object rt) → decode cc pc = .ok (.areturn, 1) → post (.returned (some (.ref q))) u → Hp u H → va_S A s.heap H locs → W p l e rm s m args below meth c H locs mc ms QQ (F0 m pc ls [.ref q])) ∧
  (∀ (pc : Nat) (ls : Array Slot) (q : Nat) (rest : List Value) (u : S) (H : Heap) (locs : List Loc), decode cc pc = .ok (.athrow, 1) → post (.threw q) u → Hp u H → va_S A s.heap H locs → W p l e rm s m args below meth c H locs mc ms QQ (F0 m pc ls (.ref q :: rest))) ∧
  (∀ (pc : Nat) (ls : Array Slot) (q : Nat) (st : List Value) (u : S) (H : Heap) (locs : List Loc), post (.threw q) u → Hp u H → va_S A s.heap H locs → WT p l e rm s m args below meth c H locs mc ms QQ q (F0 m pc ls st))
theorem g_entT {post : Outcome → S → Prop} (hC : y.cls = C) (hy : plainName C = true) (hlen : (lg_sl av).length ≤ nL)
    (body : ∀ (p : Program) (e : Env) (s : State) (m : MethodId) (args : Array Value) (below : List Frame) (meth : Method) (c : Code) (QQ : State → Prop) (ls : Array Slot) (H : Heap) (locs : List Loc), CallFix p m c cc nL s args lw_all C → Kp s → Hp u0 H → va_S A s.heap H locs → lv_has ls nL (lv_args 0 av) → EndsT p l e rm s m args below meth c cc mc ms QQ A ret Hp post →
      W p l e rm s m args below meth c H locs 0 0 QQ (F0 m 0 ls [])) : MetT l y (ws_ y cc nL ret) rm (va_Pc av (fun U => Kp U ∧ Hp u0 U.heap)) (va_QT post (fun u t => Hp u t.heap) A) mc ms A := by
  subst hC
  refine MetT.ofW (cc := cc) (maxL := nL) (ret := ret) hy rfl ?_
  intro p e s m args below meth c s₁ B hml hv
  obtain ⟨rfl, hk, hh⟩ := hv
  have hts0 := atoms_spec (ws := ws_ y cc nL ret) B.pre
  have hts : ∀ w ∈ lw_all, w.before _ s = true := fun w h => hts0 w (List.mem_cons_of_mem _ h)
  have hout := B.noHandlers (hts0 _ List.mem_cons_self)
  have hlk : meth.locks = false := BodyLoose.notSynchronized B
  rw [lg_entry_eq]
  refine body p e s m _ below meth c _ _ _ _ ⟨B.exec, B.bytes, hml, findClass_of_methodNamed B.named, hts⟩ hk hh va_S.rf (lv_entry av hlen) ⟨?_, ?_, ?_, ?_, ?_⟩
  · intro pc ls v u H locs hr hd hp hH hS
    exact (W.iret B.exec B.bytes (by rw [← hr]; exact B.returns) (fun t ht _ => ⟨⟨u, hp, by show Hp u t.heap; rw [ht]; exact hH⟩, hS.F ht⟩) hS.2.2 hd (hlocks := hlk)).toT
  · intro pc ls u H locs hr hd hp hH hS
    exact (W.vret B.exec B.bytes (by rw [← hr]; exact B.returns) (fun t ht _ => ⟨⟨u, hp, by show Hp u t.heap; rw [ht]; exact hH⟩, hS.F ht⟩) hS.2.2 hd (hlocks := hlk)).toT
  · intro pc ls q rt u H locs hr hd hp hH hS
    exact (W.aret B.exec B.bytes (by rw [← hr]; exact B.returns) (Or.inl ⟨_, rfl⟩) (Or.inr ⟨_, rfl⟩) (fun t ht _ => ⟨⟨u, hp, by show Hp u t.heap; rw [ht]; exact hH⟩, hS.F ht⟩) hS.2.2 hd (hlocks := hlk)).toT
  · intro pc ls q rest u H locs hd hp hH hS
    exact W.athrowOut B.exec B.bytes hout hlk (fun t ht _ => ⟨⟨u, hp, by show Hp u t.heap; rw [ht]; exact hH⟩, hS.F ht⟩) hS.2.2 hd
  · intro pc ls q st u H locs hp hH hS
    exact WT.leave hout hlk (fun t ht _ => ⟨⟨u, hp, by show Hp u t.heap; rw [ht]; exact hH⟩, hS.F ht⟩) hS.2.2
end TE
