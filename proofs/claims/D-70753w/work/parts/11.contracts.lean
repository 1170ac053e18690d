/-! CONTRACTS: a method's entry and its return as a hypothesis; calls. P: the heap stays as it was; W: a world of states S moves -/
set_option maxRecDepth 100000
def toN (x : Int32) : Nat := x.toNatClampNeg
theorem toN_nI {n : Nat} (h : n < 2 ^ 31) : toN (nI n) = n := nI_clamp h
theorem g_lift {r : Int32} {n : Nat} (h : ∃ j : Nat, j < n ∧ r = nI j) (hn : n ≤ 2 ^ 31) : r = nI (toN r) ∧ toN r < n := by
  obtain ⟨j, hj, rfl⟩ := h
  rw [toN_nI (by omega)]
  exact ⟨rfl, hj⟩
theorem g_nil {free : Addr → Prop} : ∀ q ∈ ([] : List Loc), free q.base := fun q h => by cases h
section GENT
variable {l : Launch} {y : MethodName} {cc : ByteArray} {nL : Nat} {rm : Room} {av : List Value} {C : String}
/-- entry, heap kept, int answer -/
theorem g_entPi {Kp : State → Prop} {post : Int32 → Prop} (hC : y.cls = C) (hy : plainName C = true) (hlen : (lg_sl av).length ≤ nL)
    (body : ∀ (p : Program) (e : Env) (s : State) (m : MethodId) (args : Array Value) (below : List Frame) (meth : Method) (c : Code) (QQ : State → Prop) (ls : Array Slot), CallFix p m c cc nL s args lw_all C → Kp s → lv_has ls nL (lv_args 0 av) →
      (∀ (pc : Nat) (ls : Array Slot) (v : Int32), decode cc pc = .ok (.ireturn, 1) → post v → W p l e rm s m args below meth c s.heap [] 0 0 QQ (F0 m pc ls [.int v])) →
      W p l e rm s m args below meth c s.heap [] 0 0 QQ (F0 m 0 ls [])) : Met l y (ws_ y cc nL (some .int)) rm (va_Pc av Kp) (vp_Si post) 0 0 (fun _ => False) := by
  subst hC
  refine Met.ofW (cc := cc) (maxL := nL) (ret := some .int) hy rfl ?_
  intro p e s m args below meth c s₁ B hml hv
  obtain ⟨rfl, hk⟩ := hv
  have hts := atoms_spec (ws := ws_ y cc nL (some .int)) B.pre
  have hts : ∀ w ∈ lw_all, w.before _ s = true := fun w h => hts w (List.mem_cons_of_mem _ h)
  rw [lg_entry_eq]
  exact body p e s m _ below meth c _ _ ⟨B.exec, B.bytes, hml, findClass_of_methodNamed B.named, hts⟩ hk (lv_entry av hlen) (fun pc ls v hd hp => W.iret B.exec B.bytes B.returns (fun t ht _ => ⟨v, rfl, hp, ht⟩) g_nil hd (hlocks := B.notSynchronized))
/-- entry, heap kept, boolean answer -/
theorem g_entPz {Kp : State → Prop} {post : Int32 → Prop} (hC : y.cls = C) (hy : plainName C = true) (hlen : (lg_sl av).length ≤ nL)
    (body : ∀ (p : Program) (e : Env) (s : State) (m : MethodId) (args : Array Value) (below : List Frame) (meth : Method) (c : Code) (QQ : State → Prop) (ls : Array Slot), CallFix p m c cc nL s args lw_all C → Kp s → lv_has ls nL (lv_args 0 av) →
      (∀ (pc : Nat) (ls : Array Slot) (v : Int32), decode cc pc = .ok (.ireturn, 1) → post v → (v = 0 ∨ v = 1) → W p l e rm s m args below meth c s.heap [] 0 0 QQ (F0 m pc ls [.int v])) →
      W p l e rm s m args below meth c s.heap [] 0 0 QQ (F0 m 0 ls [])) : Met l y (ws_ y cc nL (some .boolean)) rm (va_Pc av Kp) (vp_Si post) 0 0 (fun _ => False) := by
  subst hC
  refine Met.ofW (cc := cc) (maxL := nL) (ret := some .boolean) hy rfl ?_
  intro p e s m args below meth c s₁ B hml hv
  obtain ⟨rfl, hk⟩ := hv
  have hts := atoms_spec (ws := ws_ y cc nL (some .boolean)) B.pre
  have hts : ∀ w ∈ lw_all, w.before _ s = true := fun w h => hts w (List.mem_cons_of_mem _ h)
  rw [lg_entry_eq]
  exact body p e s m _ below meth c _ _ ⟨B.exec, B.bytes, hml, findClass_of_methodNamed B.named, hts⟩ hk (lv_entry av hlen) (fun pc ls v hd hp hz => W.zret B.exec B.bytes B.returns (by rcases hz with h | h <;> rw [h] <;> rfl) (fun t ht _ => ⟨v, rfl, hp, ht⟩) g_nil hd (hlocks := B.notSynchronized))
/-- entry, heap kept, long answer -/
theorem g_entPl {Kp : State → Prop} {post : Int64 → Prop} (hC : y.cls = C) (hy : plainName C = true) (hlen : (lg_sl av).length ≤ nL)
    (body : ∀ (p : Program) (e : Env) (s : State) (m : MethodId) (args : Array Value) (below : List Frame) (meth : Method) (c : Code) (QQ : State → Prop) (ls : Array Slot), CallFix p m c cc nL s args lw_all C → Kp s → lv_has ls nL (lv_args 0 av) →
      (∀ (pc : Nat) (ls : Array Slot) (v : Int64), decode cc pc = .ok (.lreturn, 1) → post v → W p l e rm s m args below meth c s.heap [] 0 0 QQ (F0 m pc ls [.long v])) →
      W p l e rm s m args below meth c s.heap [] 0 0 QQ (F0 m 0 ls [])) : Met l y (ws_ y cc nL (some .long)) rm (va_Pc av Kp) (vp_Sl post) 0 0 (fun _ => False) := by
  subst hC
  refine Met.ofW (cc := cc) (maxL := nL) (ret := some .long) hy rfl ?_
  intro p e s m args below meth c s₁ B hml hv
  obtain ⟨rfl, hk⟩ := hv
  have hts := atoms_spec (ws := ws_ y cc nL (some .long)) B.pre
  have hts : ∀ w ∈ lw_all, w.before _ s = true := fun w h => hts w (List.mem_cons_of_mem _ h)
  rw [lg_entry_eq]
  exact body p e s m _ below meth c _ _ ⟨B.exec, B.bytes, hml, findClass_of_methodNamed B.named, hts⟩ hk (lv_entry av hlen) (fun pc ls v hd hp => W.lret B.exec B.bytes B.returns (fun t ht _ => ⟨v, rfl, hp, ht⟩) g_nil hd (hlocks := B.notSynchronized))
variable {S : Type} {Kp : State → Prop} {Hp : S → Heap → Prop} {u0 : S} {A : Nat → Prop} {mc ms : Nat}
/-- entry, a world, int answer -/
theorem g_entWi {post : Int32 → S → Prop} (hC : y.cls = C) (hy : plainName C = true) (hlen : (lg_sl av).length ≤ nL)
    (body : ∀ (p : Program) (e : Env) (s : State) (m : MethodId) (args : Array Value) (below : List Frame) (meth : Method) (c : Code) (QQ : State → Prop) (ls : Array Slot) (H : Heap) (locs : List Loc), CallFix p m c cc nL s args lw_all C → Kp s → Hp u0 H → va_S A s.heap H locs → lv_has ls nL (lv_args 0 av) →
      (∀ (pc : Nat) (ls : Array Slot) (v : Int32) (u : S) (H : Heap) (locs : List Loc), decode cc pc = .ok (.ireturn, 1) → post v u → Hp u H → va_S A s.heap H locs → W p l e rm s m args below meth c H locs mc ms QQ (F0 m pc ls [.int v])) →
      W p l e rm s m args below meth c H locs 0 0 QQ (F0 m 0 ls [])) : Met l y (ws_ y cc nL (some .int)) rm (va_Pc av (fun U => Kp U ∧ Hp u0 U.heap)) (va_Qi post (fun u t => Hp u t.heap) A) mc ms A := by
  subst hC
  refine Met.ofW (cc := cc) (maxL := nL) (ret := some .int) hy rfl ?_
  intro p e s m args below meth c s₁ B hml hv
  obtain ⟨rfl, hk, hh⟩ := hv
  have hts := atoms_spec (ws := ws_ y cc nL (some .int)) B.pre
  have hts : ∀ w ∈ lw_all, w.before _ s = true := fun w h => hts w (List.mem_cons_of_mem _ h)
  rw [lg_entry_eq]
  exact body p e s m _ below meth c _ _ _ _ ⟨B.exec, B.bytes, hml, findClass_of_methodNamed B.named, hts⟩ hk hh va_S.rf (lv_entry av hlen) (fun pc ls v u H locs hd hp hH hS => W.iret B.exec B.bytes B.returns (fun t ht _ => ⟨⟨v, u, rfl, hp, by show Hp u t.heap; rw [ht]; exact hH⟩, hS.F ht⟩) hS.2.2 hd (hlocks := B.notSynchronized))
/-- entry, a world, boolean answer -/
theorem g_entWz {post : Int32 → S → Prop} (hC : y.cls = C) (hy : plainName C = true) (hlen : (lg_sl av).length ≤ nL)
    (body : ∀ (p : Program) (e : Env) (s : State) (m : MethodId) (args : Array Value) (below : List Frame) (meth : Method) (c : Code) (QQ : State → Prop) (ls : Array Slot) (H : Heap) (locs : List Loc), CallFix p m c cc nL s args lw_all C → Kp s → Hp u0 H → va_S A s.heap H locs → lv_has ls nL (lv_args 0 av) →
      (∀ (pc : Nat) (ls : Array Slot) (v : Int32) (u : S) (H : Heap) (locs : List Loc), decode cc pc = .ok (.ireturn, 1) → post v u → (v = 0 ∨ v = 1) → Hp u H → va_S A s.heap H locs → W p l e rm s m args below meth c H locs mc ms QQ (F0 m pc ls [.int v])) →
      W p l e rm s m args below meth c H locs 0 0 QQ (F0 m 0 ls [])) : Met l y (ws_ y cc nL (some .boolean)) rm (va_Pc av (fun U => Kp U ∧ Hp u0 U.heap)) (va_Qi post (fun u t => Hp u t.heap) A) mc ms A := by
  subst hC
  refine Met.ofW (cc := cc) (maxL := nL) (ret := some .boolean) hy rfl ?_
  intro p e s m args below meth c s₁ B hml hv
  obtain ⟨rfl, hk, hh⟩ := hv
  have hts := atoms_spec (ws := ws_ y cc nL (some .boolean)) B.pre
  have hts : ∀ w ∈ lw_all, w.before _ s = true := fun w h => hts w (List.mem_cons_of_mem _ h)
  rw [lg_entry_eq]
  exact body p e s m _ below meth c _ _ _ _ ⟨B.exec, B.bytes, hml, findClass_of_methodNamed B.named, hts⟩ hk hh va_S.rf (lv_entry av hlen) (fun pc ls v u H locs hd hp hz hH hS => W.zret B.exec B.bytes B.returns (by rcases hz with h | h <;> rw [h] <;> rfl) (fun t ht _ => ⟨⟨v, u, rfl, hp, by show Hp u t.heap; rw [ht]; exact hH⟩, hS.F ht⟩) hS.2.2 hd (hlocks := B.notSynchronized))
/-- entry, a world, long answer -/
theorem g_entWl {post : Int64 → S → Prop} (hC : y.cls = C) (hy : plainName C = true) (hlen : (lg_sl av).length ≤ nL)
    (body : ∀ (p : Program) (e : Env) (s : State) (m : MethodId) (args : Array Value) (below : List Frame) (meth : Method) (c : Code) (QQ : State → Prop) (ls : Array Slot) (H : Heap) (locs : List Loc), CallFix p m c cc nL s args lw_all C → Kp s → Hp u0 H → va_S A s.heap H locs → lv_has ls nL (lv_args 0 av) →
      (∀ (pc : Nat) (ls : Array Slot) (v : Int64) (u : S) (H : Heap) (locs : List Loc), decode cc pc = .ok (.lreturn, 1) → post v u → Hp u H → va_S A s.heap H locs → W p l e rm s m args below meth c H locs mc ms QQ (F0 m pc ls [.long v])) →
      W p l e rm s m args below meth c H locs 0 0 QQ (F0 m 0 ls [])) : Met l y (ws_ y cc nL (some .long)) rm (va_Pc av (fun U => Kp U ∧ Hp u0 U.heap)) (va_Ql post (fun u t => Hp u t.heap) A) mc ms A := by
  subst hC
  refine Met.ofW (cc := cc) (maxL := nL) (ret := some .long) hy rfl ?_
  intro p e s m args below meth c s₁ B hml hv
  obtain ⟨rfl, hk, hh⟩ := hv
  have hts := atoms_spec (ws := ws_ y cc nL (some .long)) B.pre
  have hts : ∀ w ∈ lw_all, w.before _ s = true := fun w h => hts w (List.mem_cons_of_mem _ h)
  rw [lg_entry_eq]
  exact body p e s m _ below meth c _ _ _ _ ⟨B.exec, B.bytes, hml, findClass_of_methodNamed B.named, hts⟩ hk hh va_S.rf (lv_entry av hlen) (fun pc ls v u H locs hd hp hH hS => W.lret B.exec B.bytes B.returns (fun t ht _ => ⟨⟨v, u, rfl, hp, by show Hp u t.heap; rw [ht]; exact hH⟩, hS.F ht⟩) hS.2.2 hd (hlocks := B.notSynchronized))
/-- entry, a world, no answer -/
theorem g_entWv {post : S → Prop} (hC : y.cls = C) (hy : plainName C = true) (hlen : (lg_sl av).length ≤ nL)
    (body : ∀ (p : Program) (e : Env) (s : State) (m : MethodId) (args : Array Value) (below : List Frame) (meth : Method) (c : Code) (QQ : State → Prop) (ls : Array Slot) (H : Heap) (locs : List Loc), CallFix p m c cc nL s args lw_all C → Kp s → Hp u0 H → va_S A s.heap H locs → lv_has ls nL (lv_args 0 av) →
      (∀ (pc : Nat) (ls : Array Slot) (u : S) (H : Heap) (locs : List Loc), decode cc pc = .ok (.return_, 1) → post u → Hp u H → va_S A s.heap H locs → W p l e rm s m args below meth c H locs mc ms QQ (F0 m pc ls [])) →
      W p l e rm s m args below meth c H locs 0 0 QQ (F0 m 0 ls [])) : Met l y (ws_ y cc nL none) rm (va_Pc av (fun U => Kp U ∧ Hp u0 U.heap)) (va_Qv post (fun u t => Hp u t.heap) A) mc ms A := by
  subst hC
  refine Met.ofW (cc := cc) (maxL := nL) (ret := none) hy rfl ?_
  intro p e s m args below meth c s₁ B hml hv
  obtain ⟨rfl, hk, hh⟩ := hv
  have hts := atoms_spec (ws := ws_ y cc nL none) B.pre
  have hts : ∀ w ∈ lw_all, w.before _ s = true := fun w h => hts w (List.mem_cons_of_mem _ h)
  rw [lg_entry_eq]
  exact body p e s m _ below meth c _ _ _ _ ⟨B.exec, B.bytes, hml, findClass_of_methodNamed B.named, hts⟩ hk hh va_S.rf (lv_entry av hlen) (fun pc ls u H locs hd hp hH hS => W.vret B.exec B.bytes B.returns (fun t ht _ => ⟨⟨u, rfl, hp, by show Hp u t.heap; rw [ht]; exact hH⟩, hS.F ht⟩) hS.2.2 hd (hlocks := B.notSynchronized))
end GENT
section GCALL
variable {p : Program} {l : Launch} {e : Env} {R : Room} {s : State} {m : MethodId} {args : Array Value} {below : List Frame} {meth : Method} {c : Code} {H : Heap} {locs : List Loc} {cells slots : Nat} {Q : State → Prop}
variable {y : MethodName} {bytes cc : ByteArray} {maxL nL index : Nat} {ret : Option FieldType} {rm : Room} {own C : String} {b : Addr} {As rest st0 : List Value} {pc : Nat} {ls : Array Slot} {Pc : Array Value → State → Prop}
theorem g_pre0 : PreS s H (va_Pc As (fun _ => True)) As := ⟨fun a U g mk q => q, fun U _ _ => ⟨rfl, trivial⟩⟩
theorem g_sPi {post : Int32 → Prop} (hF : CallFix p m c cc nL s args lw_all own) (hM : Met l y (ws_ y bytes maxL ret) rm Pc (vp_Si post) 0 0 (fun _ => False)) (hG : GoodIn lw_all (va_wsS own index y (ws_ y bytes maxL ret))) (n : Nat) (hd : y.cls ≠ "java/lang/invoke/MethodHandle" ∧ y.cls ≠ "java/lang/invoke/VarHandle" ∧ (parseMethodDescriptor y.desc).map (fun d => d.parameters.length) = some n) (hrc : rm.cells = 0) (hrs : rm.slots = 0) (hR : rm.frames + 1 ≤ R.frames ∧ 8 + (maxL + 11) + rm.locals ≤ R.locals) (hp : PreS s H Pc As) (hn : As.length = n) (hls : ls.size = nL) (hst : st0 = As.reverse ++ rest) (hW : (rest.map fun v => v.category).sum ≤ 8) (hdg : decode cc pc = .ok (.invokestatic index, 3)) (hcap : cells ≤ R.cells ∧ slots ≤ R.slots)
    (kk : ∀ r : Int32, post r → W p l e R s m args below meth c H locs cells slots Q (F0 m (pc + 3) ls (.int r :: rest))) : W p l e R s m args below meth c H locs cells slots Q (F0 m pc ls st0) :=
  vp_callSi (W.runS (As := As) (rest := rest) hF hM (va_cwS n hF.2.2.2.2 hG rfl hrc hrs hd hR) hp rfl hn hls hst (lv_room hW) hdg hcap) kk
theorem g_sPl {post : Int64 → Prop} (hF : CallFix p m c cc nL s args lw_all own) (hM : Met l y (ws_ y bytes maxL ret) rm Pc (vp_Sl post) 0 0 (fun _ => False)) (hG : GoodIn lw_all (va_wsS own index y (ws_ y bytes maxL ret))) (n : Nat) (hd : y.cls ≠ "java/lang/invoke/MethodHandle" ∧ y.cls ≠ "java/lang/invoke/VarHandle" ∧ (parseMethodDescriptor y.desc).map (fun d => d.parameters.length) = some n) (hrc : rm.cells = 0) (hrs : rm.slots = 0) (hR : rm.frames + 1 ≤ R.frames ∧ 8 + (maxL + 11) + rm.locals ≤ R.locals) (hp : PreS s H Pc As) (hn : As.length = n) (hls : ls.size = nL) (hst : st0 = As.reverse ++ rest) (hW : (rest.map fun v => v.category).sum ≤ 8) (hdg : decode cc pc = .ok (.invokestatic index, 3)) (hcap : cells ≤ R.cells ∧ slots ≤ R.slots)
    (kk : ∀ r : Int64, post r → W p l e R s m args below meth c H locs cells slots Q (F0 m (pc + 3) ls (.long r :: rest))) : W p l e R s m args below meth c H locs cells slots Q (F0 m pc ls st0) :=
  vp_callSl (W.runS (As := As) (rest := rest) hF hM (va_cwS n hF.2.2.2.2 hG rfl hrc hrs hd hR) hp rfl hn hls hst (lv_room hW) hdg hcap) kk
theorem g_vPi {post : Int32 → Prop} (hF : CallFix p m c cc nL s args lw_all own) (hM : Met l y (ws_ y bytes maxL ret) rm Pc (vp_Si post) 0 0 (fun _ => False)) (hG : GoodIn lw_all (wsV own index C y (ws_ y bytes maxL ret))) (n : Nat) (hd : y.cls = C ∧ y.cls ≠ "java/lang/invoke/MethodHandle" ∧ y.cls ≠ "java/lang/invoke/VarHandle" ∧ (parseMethodDescriptor y.desc).map (fun d => d.parameters.length) = some n) (hrc : rm.cells = 0) (hrs : rm.slots = 0) (hR : rm.frames + 1 ≤ R.frames ∧ 8 + (maxL + 11) + rm.locals ≤ R.locals) (hp : PreV s H C b Pc As) (hn : As.length = n) (hls : ls.size = nL) (hst : st0 = As.reverse ++ .ref b :: rest) (hW : (rest.map fun v => v.category).sum ≤ 8) (hdg : decode cc pc = .ok (.invokevirtual index, 3)) (hcap : cells ≤ R.cells ∧ slots ≤ R.slots)
    (kk : ∀ r : Int32, post r → W p l e R s m args below meth c H locs cells slots Q (F0 m (pc + 3) ls (.int r :: rest))) : W p l e R s m args below meth c H locs cells slots Q (F0 m pc ls st0) :=
  vp_callSi (W.runV (As := As) (rest := rest) hF hM (cwV n hF.2.2.2.2 hG rfl hrc hrs hd hR) hp rfl hn hls hst (lv_room hW) hdg hcap) kk
variable {S : Type} {Hp : S → Heap → Prop} {A : Nat → Prop} {mc ms : Nat}
theorem g_vWi {post : Int32 → S → Prop} (hF : CallFix p m c cc nL s args lw_all own) (hM : Met l y (ws_ y bytes maxL ret) rm Pc (va_Qi post (fun u t => Hp u t.heap) A) mc ms A) (hG : GoodIn lw_all (wsV own index C y (ws_ y bytes maxL ret))) (n : Nat) (hd : y.cls = C ∧ y.cls ≠ "java/lang/invoke/MethodHandle" ∧ y.cls ≠ "java/lang/invoke/VarHandle" ∧ (parseMethodDescriptor y.desc).map (fun d => d.parameters.length) = some n) (hrc : rm.cells = mc) (hrs : rm.slots = ms) (hR : rm.frames + 1 ≤ R.frames ∧ 8 + (maxL + 11) + rm.locals ≤ R.locals) (hp : PreV s H C b Pc As) (hn : As.length = n) (hls : ls.size = nL) (hst : st0 = As.reverse ++ .ref b :: rest) (hW : (rest.map fun v => v.category).sum ≤ 8) (hdg : decode cc pc = .ok (.invokevirtual index, 3)) (hcap : cells + mc ≤ R.cells ∧ slots + ms ≤ R.slots) (hS : va_S A s.heap H locs)
    (kk : ∀ (r : Int32) (u : S) (H : Heap) (locs : List Loc), post r u → Hp u H → va_S A s.heap H locs → W p l e R s m args below meth c H locs (cells + mc) (slots + ms) Q (F0 m (pc + 3) ls (.int r :: rest))) : W p l e R s m args below meth c H locs cells slots Q (F0 m pc ls st0) :=
  va_calli (va_runV (As := As) (rest := rest) hF hM (cwV n hF.2.2.2.2 hG rfl hrc hrs hd hR) hp rfl hn hls hst (lv_room hW) hdg hcap) hS (fun _ _ h => h) (fun _ h => h) (fun r u t H1 locs1 ht _ hpost hB _ _ hS1 => kk r u H1 locs1 hpost (by rw [← ht]; exact hB) hS1)
theorem g_vWl {post : Int64 → S → Prop} (hF : CallFix p m c cc nL s args lw_all own) (hM : Met l y (ws_ y bytes maxL ret) rm Pc (va_Ql post (fun u t => Hp u t.heap) A) mc ms A) (hG : GoodIn lw_all (wsV own index C y (ws_ y bytes maxL ret))) (n : Nat) (hd : y.cls = C ∧ y.cls ≠ "java/lang/invoke/MethodHandle" ∧ y.cls ≠ "java/lang/invoke/VarHandle" ∧ (parseMethodDescriptor y.desc).map (fun d => d.parameters.length) = some n) (hrc : rm.cells = mc) (hrs : rm.slots = ms) (hR : rm.frames + 1 ≤ R.frames ∧ 8 + (maxL + 11) + rm.locals ≤ R.locals) (hp : PreV s H C b Pc As) (hn : As.length = n) (hls : ls.size = nL) (hst : st0 = As.reverse ++ .ref b :: rest) (hW : (rest.map fun v => v.category).sum ≤ 8) (hdg : decode cc pc = .ok (.invokevirtual index, 3)) (hcap : cells + mc ≤ R.cells ∧ slots + ms ≤ R.slots) (hS : va_S A s.heap H locs)
    (kk : ∀ (r : Int64) (u : S) (H : Heap) (locs : List Loc), post r u → Hp u H → va_S A s.heap H locs → W p l e R s m args below meth c H locs (cells + mc) (slots + ms) Q (F0 m (pc + 3) ls (.long r :: rest))) : W p l e R s m args below meth c H locs cells slots Q (F0 m pc ls st0) :=
  va_calll (va_runV (As := As) (rest := rest) hF hM (cwV n hF.2.2.2.2 hG rfl hrc hrs hd hR) hp rfl hn hls hst (lv_room hW) hdg hcap) hS (fun _ _ h => h) (fun _ h => h) (fun r u t H1 locs1 ht _ hpost hB _ _ hS1 => kk r u H1 locs1 hpost (by rw [← ht]; exact hB) hS1)
theorem g_vWv {post : S → Prop} (hF : CallFix p m c cc nL s args lw_all own) (hM : Met l y (ws_ y bytes maxL ret) rm Pc (va_Qv post (fun u t => Hp u t.heap) A) mc ms A) (hG : GoodIn lw_all (wsV own index C y (ws_ y bytes maxL ret))) (n : Nat) (hd : y.cls = C ∧ y.cls ≠ "java/lang/invoke/MethodHandle" ∧ y.cls ≠ "java/lang/invoke/VarHandle" ∧ (parseMethodDescriptor y.desc).map (fun d => d.parameters.length) = some n) (hrc : rm.cells = mc) (hrs : rm.slots = ms) (hR : rm.frames + 1 ≤ R.frames ∧ 8 + (maxL + 11) + rm.locals ≤ R.locals) (hp : PreV s H C b Pc As) (hn : As.length = n) (hls : ls.size = nL) (hst : st0 = As.reverse ++ .ref b :: rest) (hW : (rest.map fun v => v.category).sum ≤ 8) (hdg : decode cc pc = .ok (.invokevirtual index, 3)) (hcap : cells + mc ≤ R.cells ∧ slots + ms ≤ R.slots) (hS : va_S A s.heap H locs)
    (kk : ∀ (u : S) (H : Heap) (locs : List Loc), post u → Hp u H → va_S A s.heap H locs → W p l e R s m args below meth c H locs (cells + mc) (slots + ms) Q (F0 m (pc + 3) ls rest)) : W p l e R s m args below meth c H locs cells slots Q (F0 m pc ls st0) :=
  va_callv (va_runV (As := As) (rest := rest) hF hM (cwV n hF.2.2.2.2 hG rfl hrc hrs hd hR) hp rfl hn hls hst (lv_room hW) hdg hcap) hS (fun _ _ h => h) (fun _ h => h) (fun u t H1 locs1 ht _ hpost hB _ _ hS1 => kk u H1 locs1 hpost (by rw [← ht]; exact hB) hS1)
theorem g_sWv {post : S → Prop} (hF : CallFix p m c cc nL s args lw_all own) (hM : Met l y (ws_ y bytes maxL ret) rm Pc (va_Qv post (fun u t => Hp u t.heap) A) mc ms A) (hG : GoodIn lw_all (va_wsS own index y (ws_ y bytes maxL ret))) (n : Nat) (hd : y.cls ≠ "java/lang/invoke/MethodHandle" ∧ y.cls ≠ "java/lang/invoke/VarHandle" ∧ (parseMethodDescriptor y.desc).map (fun d => d.parameters.length) = some n) (hrc : rm.cells = mc) (hrs : rm.slots = ms) (hR : rm.frames + 1 ≤ R.frames ∧ 8 + (maxL + 11) + rm.locals ≤ R.locals) (hp : PreS s H Pc As) (hn : As.length = n) (hls : ls.size = nL) (hst : st0 = As.reverse ++ rest) (hW : (rest.map fun v => v.category).sum ≤ 8) (hdg : decode cc pc = .ok (.invokestatic index, 3)) (hcap : cells + mc ≤ R.cells ∧ slots + ms ≤ R.slots) (hS : va_S A s.heap H locs)
    (kk : ∀ (u : S) (H : Heap) (locs : List Loc), post u → Hp u H → va_S A s.heap H locs → W p l e R s m args below meth c H locs (cells + mc) (slots + ms) Q (F0 m (pc + 3) ls rest)) : W p l e R s m args below meth c H locs cells slots Q (F0 m pc ls st0) :=
  va_callv (va_runS (As := As) (rest := rest) hF hM (va_cwS n hF.2.2.2.2 hG rfl hrc hrs hd hR) hp rfl hn hls hst (lv_room hW) hdg hcap) hS (fun _ _ h => h) (fun _ h => h) (fun u t H1 locs1 ht _ hpost hB _ _ hS1 => kk u H1 locs1 hpost (by rw [← ht]; exact hB) hS1)
end GCALL
/-! rows over natural numbers -/
section GNAT
variable {p : Program} {l : Launch} {e : Env} {R : Room} {s : State} {m : MethodId} {args : Array Value} {below : List Frame} {meth : Method} {c : Code} {H : Heap} {locs : List Loc} {cells slots : Nat} {Q : State → Prop} {cc : ByteArray} {pc : Nat} {ls : Array Slot} {rest : List Value}
theorem n_iadd (hexec : p.tables.exec = Jvm.exec) (hb : c.code = cc) {x y : Nat} (hdg : decode cc pc = .ok (.iadd, 1)) (k : W p l e R s m args below meth c H locs cells slots Q (F0 m (pc + 1) ls (.int (nI (x + y)) :: rest))) : W p l e R s m args below meth c H locs cells slots Q (F0 m pc ls (.int (nI y) :: .int (nI x) :: rest)) := lv_iadd hexec hb hdg (by rw [nI_add]; exact k)
theorem n_imul (hexec : p.tables.exec = Jvm.exec) (hb : c.code = cc) {x y : Nat} (hdg : decode cc pc = .ok (.imul, 1)) (k : W p l e R s m args below meth c H locs cells slots Q (F0 m (pc + 1) ls (.int (nI (x * y)) :: rest))) : W p l e R s m args below meth c H locs cells slots Q (F0 m pc ls (.int (nI y) :: .int (nI x) :: rest)) := lv_imul hexec hb hdg (by rw [pk_mul]; exact k)
theorem n_isub (hexec : p.tables.exec = Jvm.exec) (hb : c.code = cc) {x y : Nat} (hdg : decode cc pc = .ok (.isub, 1)) (h : y ≤ x) (k : W p l e R s m args below meth c H locs cells slots Q (F0 m (pc + 1) ls (.int (nI (x - y)) :: rest))) : W p l e R s m args below meth c H locs cells slots Q (F0 m pc ls (.int (nI y) :: .int (nI x) :: rest)) := lv_isub hexec hb hdg (by rw [pk_sub h]; exact k)
theorem n_idiv (hexec : p.tables.exec = Jvm.exec) (hb : c.code = cc) {x y : Nat} (hdg : decode cc pc = .ok (.idiv, 1)) (hx : x < 2 ^ 31) (h0 : 0 < y) (hy : y < 2 ^ 31) (k : W p l e R s m args below meth c H locs cells slots Q (F0 m (pc + 1) ls (.int (nI (x / y)) :: rest))) : W p l e R s m args below meth c H locs cells slots Q (F0 m pc ls (.int (nI y) :: .int (nI x) :: rest)) := lv_idiv hexec hb hdg (nI_ne0 h0 hy) (by rw [pk_div hx h0 hy]; exact k)
theorem n_irem (hexec : p.tables.exec = Jvm.exec) (hb : c.code = cc) {x y : Nat} (hdg : decode cc pc = .ok (.irem, 1)) (hx : x < 2 ^ 31) (h0 : 0 < y) (hy : y < 2 ^ 31) (k : W p l e R s m args below meth c H locs cells slots Q (F0 m (pc + 1) ls (.int (nI (x % y)) :: rest))) : W p l e R s m args below meth c H locs cells slots Q (F0 m pc ls (.int (nI y) :: .int (nI x) :: rest)) := lv_irem hexec hb hdg (nI_ne0 h0 hy) (by rw [pk_rem hx h0 hy]; exact k)
theorem n_ge (hexec : p.tables.exec = Jvm.exec) (hb : c.code = cc) {x y : Nat} {off : Int} {tgt : Nat} (hdg : decode cc pc = .ok (.if_icmp .ge off, 3)) (ht : (pc : Int) + off = (tgt : Int)) (hx : x < 2 ^ 31) (hy : y < 2 ^ 31) (kt : y ≤ x → W p l e R s m args below meth c H locs cells slots Q (F0 m tgt ls rest)) (kf : ¬ y ≤ x → W p l e R s m args below meth c H locs cells slots Q (F0 m (pc + 3) ls rest)) : W p l e R s m args below meth c H locs cells slots Q (F0 m pc ls (.int (nI y) :: .int (nI x) :: rest)) :=
  lv_icmp_ge hexec hb hdg ht (fun h => kt ((nI_leI hy hx).mp h)) (fun h => kf (fun z => h ((nI_leI hy hx).mpr z)))
theorem n_gt (hexec : p.tables.exec = Jvm.exec) (hb : c.code = cc) {x y : Nat} {off : Int} {tgt : Nat} (hdg : decode cc pc = .ok (.if_icmp .gt off, 3)) (ht : (pc : Int) + off = (tgt : Int)) (hx : x < 2 ^ 31) (hy : y < 2 ^ 31) (kt : y < x → W p l e R s m args below meth c H locs cells slots Q (F0 m tgt ls rest)) (kf : ¬ y < x → W p l e R s m args below meth c H locs cells slots Q (F0 m (pc + 3) ls rest)) : W p l e R s m args below meth c H locs cells slots Q (F0 m pc ls (.int (nI y) :: .int (nI x) :: rest)) :=
  lv_icmp_gt hexec hb hdg ht (fun h => kt ((nI_ltI hy hx).mp h)) (fun h => kf (fun z => h ((nI_ltI hy hx).mpr z)))
theorem n_le (hexec : p.tables.exec = Jvm.exec) (hb : c.code = cc) {x y : Nat} {off : Int} {tgt : Nat} (hdg : decode cc pc = .ok (.if_icmp .le off, 3)) (ht : (pc : Int) + off = (tgt : Int)) (hx : x < 2 ^ 31) (hy : y < 2 ^ 31) (kt : x ≤ y → W p l e R s m args below meth c H locs cells slots Q (F0 m tgt ls rest)) (kf : ¬ x ≤ y → W p l e R s m args below meth c H locs cells slots Q (F0 m (pc + 3) ls rest)) : W p l e R s m args below meth c H locs cells slots Q (F0 m pc ls (.int (nI y) :: .int (nI x) :: rest)) :=
  lv_icmp_le hexec hb hdg ht (fun h => kt ((nI_leI hx hy).mp h)) (fun h => kf (fun z => h ((nI_leI hx hy).mpr z)))
theorem n_lt (hexec : p.tables.exec = Jvm.exec) (hb : c.code = cc) {x y : Nat} {off : Int} {tgt : Nat} (hdg : decode cc pc = .ok (.if_icmp .lt off, 3)) (ht : (pc : Int) + off = (tgt : Int)) (hx : x < 2 ^ 31) (hy : y < 2 ^ 31) (kt : x < y → W p l e R s m args below meth c H locs cells slots Q (F0 m tgt ls rest)) (kf : ¬ x < y → W p l e R s m args below meth c H locs cells slots Q (F0 m (pc + 3) ls rest)) : W p l e R s m args below meth c H locs cells slots Q (F0 m pc ls (.int (nI y) :: .int (nI x) :: rest)) :=
  lv_icmp_lt hexec hb hdg ht (fun h => kt ((nI_ltI hx hy).mp h)) (fun h => kf (fun z => h ((nI_ltI hx hy).mpr z)))
theorem n_eq (hexec : p.tables.exec = Jvm.exec) (hb : c.code = cc) {x y : Nat} {off : Int} {tgt : Nat} (hdg : decode cc pc = .ok (.if_icmp .eq off, 3)) (ht : (pc : Int) + off = (tgt : Int)) (hx : x < 2 ^ 31) (hy : y < 2 ^ 31) (kt : x = y → W p l e R s m args below meth c H locs cells slots Q (F0 m tgt ls rest)) (kf : ¬ x = y → W p l e R s m args below meth c H locs cells slots Q (F0 m (pc + 3) ls rest)) : W p l e R s m args below meth c H locs cells slots Q (F0 m pc ls (.int (nI y) :: .int (nI x) :: rest)) :=
  lv_icmp_eq hexec hb hdg ht (fun h => kt ((nI_eq hx hy).mp h)) (fun h => kf (fun z => h ((nI_eq hx hy).mpr z)))
theorem n_ne (hexec : p.tables.exec = Jvm.exec) (hb : c.code = cc) {x y : Nat} {off : Int} {tgt : Nat} (hdg : decode cc pc = .ok (.if_icmp .ne off, 3)) (ht : (pc : Int) + off = (tgt : Int)) (hx : x < 2 ^ 31) (hy : y < 2 ^ 31) (kt : ¬ x = y → W p l e R s m args below meth c H locs cells slots Q (F0 m tgt ls rest)) (kf : x = y → W p l e R s m args below meth c H locs cells slots Q (F0 m (pc + 3) ls rest)) : W p l e R s m args below meth c H locs cells slots Q (F0 m pc ls (.int (nI y) :: .int (nI x) :: rest)) :=
  lv_icmp_ne hexec hb hdg ht (fun h => kt (fun z => h ((nI_eq hx hy).mpr z))) (fun h => kf ((nI_eq hx hy).mp h))
theorem n_ifeq (hexec : p.tables.exec = Jvm.exec) (hb : c.code = cc) {x : Nat} {off : Int} {tgt : Nat} (hdg : decode cc pc = .ok (.ifCond .eq off, 3)) (ht : (pc : Int) + off = (tgt : Int)) (hx : x < 2 ^ 31) (kt : x = 0 → W p l e R s m args below meth c H locs cells slots Q (F0 m tgt ls rest)) (kf : ¬ x = 0 → W p l e R s m args below meth c H locs cells slots Q (F0 m (pc + 3) ls rest)) : W p l e R s m args below meth c H locs cells slots Q (F0 m pc ls (.int (nI x) :: rest)) :=
  lv_if_eq hexec hb hdg ht (fun h => kt ((nI_eq hx (by omega)).mp (h.trans nI_0.symm))) (fun h => kf (fun z => h (by rw [z]; exact nI_0)))
theorem n_ifne (hexec : p.tables.exec = Jvm.exec) (hb : c.code = cc) {x : Nat} {off : Int} {tgt : Nat} (hdg : decode cc pc = .ok (.ifCond .ne off, 3)) (ht : (pc : Int) + off = (tgt : Int)) (hx : x < 2 ^ 31) (kt : ¬ x = 0 → W p l e R s m args below meth c H locs cells slots Q (F0 m tgt ls rest)) (kf : x = 0 → W p l e R s m args below meth c H locs cells slots Q (F0 m (pc + 3) ls rest)) : W p l e R s m args below meth c H locs cells slots Q (F0 m pc ls (.int (nI x) :: rest)) :=
  lv_if_ne hexec hb hdg ht (fun h => kt (fun z => h (by rw [z]; exact nI_0))) (fun h => kf ((nI_eq hx (by omega)).mp (h.trans nI_0.symm)))
/-- the number on top, said otherwise -/
theorem n_top {x y : Int32} (h : x = y) (k : W p l e R s m args below meth c H locs cells slots Q (F0 m pc ls (.int y :: rest))) : W p l e R s m args below meth c H locs cells slots Q (F0 m pc ls (.int x :: rest)) := by rw [h]; exact k
theorem n_topl {x y : Int64} (h : x = y) (k : W p l e R s m args below meth c H locs cells slots Q (F0 m pc ls (.long y :: rest))) : W p l e R s m args below meth c H locs cells slots Q (F0 m pc ls (.long x :: rest)) := by rw [h]; exact k
theorem n_iinc (hexec : p.tables.exec = Jvm.exec) (hb : c.code = cc) {i nL k x : Nat} {lv lv' : List (Nat × Value)} (hdg : decode cc pc = .ok (.iinc i 1, 3)) (h : lv_has ls nL lv) (hk : lv[k]? = some (i, .int (nI x))) (hn : i < nL) (hl : (i, Value.int (nI (x + 1))) :: lv.filter (fun q => !(q.1 == i) && !(q.1 + 1 == i && q.2.category == 2)) = lv') (kk : ∀ ls' : Array Slot, lv_has ls' nL lv' → W p l e R s m args below meth c H locs cells slots Q (F0 m (pc + 3) ls' rest)) : W p l e R s m args below meth c H locs cells slots Q (F0 m pc ls rest) :=
  lv_iinc hexec hb hdg h hk (by rw [nI_succ]; rfl) hn hl kk
end GNAT
/-! counting down, counting from -1 -/
theorem dn_end {n : Nat} : nI (n - n) - nI 1 < 0 := by rw [Nat.sub_self]; decide
theorem dn_eq {n i : Nat} (h : i < n) : nI (n - i) - nI 1 = nI (n - i - 1) := pk_sub (by omega)
theorem dn_not {n i : Nat} (h : i < n) (hn : n < 2 ^ 31) : ¬ nI (n - i) - nI 1 < 0 := by rw [dn_eq h]; exact nI_pos (by omega)
theorem dn_step {n i : Nat} (h : i < n) : nI (n - i) - nI 1 + Int32.ofInt (-1) = nI (n - (i + 1)) - nI 1 := by
  have e : n - i = (n - (i + 1)) + 1 := by omega
  rw [e, nI_succ, show Int32.ofInt (-1) = -nI 1 from by decide, show nI 1 = 1 from rfl]
  grind
theorem up_step (i : Nat) : nI i - 1 + Int32.ofInt 1 = nI (i + 1) - 1 := by
  rw [nI_succ, show Int32.ofInt 1 = 1 from rfl]
  grind
theorem nsub_lift {a b : Nat} (ha : a < 2 ^ 30) (hb : b < 2 ^ 30) (h : ¬ nI a - nI b < 0) : b ≤ a ∧ nI a - nI b = nI (a - b) := by
  rcases Nat.lt_or_ge a b with q | q
  · exact absurd (pk_sneg hb q) h
  · exact ⟨q, pk_sub q⟩
theorem g_ite {q : Prop} [Decidable q] {x y : Int32} (hx : x = 0 ∨ x = 1) (hy : y = 0 ∨ y = 1) : (if q then x else y) = 0 ∨ (if q then x else y) = 1 := by
  split
  · exact hx
  · exact hy
