/-! THE LIST: add, clear, over its own cells -/
set_option maxRecDepth 100000
section LE
variable {l : Launch} {y : MethodName} {cc : ByteArray} {nL : Nat} {rm : Room} {av : List Value} {C : String} {mc ms sz : Nat} {ω : OM} {ws0 : va_W} {Kp : State → Prop} {Wf : Nat → va_W}
def lQi (ω : OM) (sz : Nat) (ws0 : va_W) (r0 : Int32) (Wf : Nat → va_W) : Array Value → State → Outcome → State → Prop := va_Qi (fun r (_ : Nat) => r = r0) (fun w t => va_P ω.1 vwCl (Wf w) t.heap ∧ va_D (va_A ws0 sz) (Wf w)) (va_A ws0 sz)
def lQv (ω : OM) (sz : Nat) (ws0 : va_W) (Wf : Nat → va_W) : Array Value → State → Outcome → State → Prop := va_Qv (fun (_ : Nat) => True) (fun w t => va_P ω.1 vwCl (Wf w) t.heap ∧ va_D (va_A ws0 sz) (Wf w)) (va_A ws0 sz)
def lQr (ω : OM) (sz : Nat) (ws0 : va_W) (Wf : Nat → va_W) : Array Value → State → Outcome → State → Prop := va_Qr (fun (_ : Unit) => True) (fun _ w t => va_P ω.1 vwCl (Wf w) t.heap ∧ va_D (va_A ws0 sz) (Wf w)) (va_A ws0 sz)
theorem g_entLz {r0 : Int32} (hC : y.cls = C) (hy : plainName C = true) (hlen : (lg_sl av).length ≤ nL)
    (body : ∀ (p : Program) (e : Env) (s : State) (m : MethodId) (args : Array Value) (below : List Frame) (meth : Method) (c : Code) (QQ : State → Prop) (ls : Array Slot) (H : Heap) (locs : List Loc), CallFix p m c cc nL s args lw_all C → Kp s → s.heap.size = sz → H = s.heap → va_P ω.1 vwCl ws0 H → va_S (va_A ws0 sz) s.heap H locs → lv_has ls nL (lv_args 0 av) →
      (∀ (pc : Nat) (ls : Array Slot) (v : Int32) (w : Nat) (H : Heap) (locs : List Loc), decode cc pc = .ok (.ireturn, 1) → v = r0 → (v = 0 ∨ v = 1) → va_P ω.1 vwCl (Wf w) H → va_D (va_A ws0 sz) (Wf w) → va_S (va_A ws0 sz) s.heap H locs → W p l e rm s m args below meth c H locs mc ms QQ (F0 m pc ls [.int v])) →
      W p l e rm s m args below meth c H locs 0 0 QQ (F0 m 0 ls [])) : Met l y (ws_ y cc nL (some .boolean)) rm (cPc ω av Kp sz ws0) (lQi ω sz ws0 r0 Wf) mc ms (va_A ws0 sz) := by
  subst hC
  refine Met.ofW (cc := cc) (maxL := nL) (ret := (some .boolean)) hy rfl ?_
  intro p e s m args below meth c s₁ B hml hv
  obtain ⟨rfl, hk, hs, hh⟩ := hv
  have hts := atoms_spec (ws := ws_ y cc nL (some .boolean)) B.pre
  have hts : ∀ w ∈ lw_all, w.before _ s = true := fun w h => hts w (List.mem_cons_of_mem _ h)
  rw [lg_entry_eq]
  exact body p e s m _ below meth c _ _ _ _ ⟨B.exec, B.bytes, hml, findClass_of_methodNamed B.named, hts⟩ hk hs rfl hh va_S.rf (lv_entry av hlen) (fun pc ls v w H locs hd hv hz hP hD hS => W.zret B.exec B.bytes B.returns (by rcases hz with h | h <;> rw [h] <;> rfl) (fun t ht _ => ⟨⟨v, w, rfl, hv, by show va_P ω.1 vwCl (Wf w) t.heap ∧ va_D (va_A ws0 sz) (Wf w); rw [ht]; exact ⟨hP, hD⟩⟩, hS.F ht⟩) hS.2.2 hd (hlocks := B.notSynchronized))
theorem g_entLv (hC : y.cls = C) (hy : plainName C = true) (hlen : (lg_sl av).length ≤ nL)
    (body : ∀ (p : Program) (e : Env) (s : State) (m : MethodId) (args : Array Value) (below : List Frame) (meth : Method) (c : Code) (QQ : State → Prop) (ls : Array Slot) (H : Heap) (locs : List Loc), CallFix p m c cc nL s args lw_all C → Kp s → s.heap.size = sz → H = s.heap → va_P ω.1 vwCl ws0 H → va_S (va_A ws0 sz) s.heap H locs → lv_has ls nL (lv_args 0 av) →
      (∀ (pc : Nat) (ls : Array Slot) (w : Nat) (H : Heap) (locs : List Loc), decode cc pc = .ok (.return_, 1) → va_P ω.1 vwCl (Wf w) H → va_D (va_A ws0 sz) (Wf w) → va_S (va_A ws0 sz) s.heap H locs → W p l e rm s m args below meth c H locs mc ms QQ (F0 m pc ls [])) →
      W p l e rm s m args below meth c H locs 0 0 QQ (F0 m 0 ls [])) : Met l y (ws_ y cc nL none) rm (cPc ω av Kp sz ws0) (lQv ω sz ws0 Wf) mc ms (va_A ws0 sz) := by
  subst hC
  refine Met.ofW (cc := cc) (maxL := nL) (ret := none) hy rfl ?_
  intro p e s m args below meth c s₁ B hml hv
  obtain ⟨rfl, hk, hs, hh⟩ := hv
  have hts := atoms_spec (ws := ws_ y cc nL none) B.pre
  have hts : ∀ w ∈ lw_all, w.before _ s = true := fun w h => hts w (List.mem_cons_of_mem _ h)
  rw [lg_entry_eq]
  exact body p e s m _ below meth c _ _ _ _ ⟨B.exec, B.bytes, hml, findClass_of_methodNamed B.named, hts⟩ hk hs rfl hh va_S.rf (lv_entry av hlen) (fun pc ls w H locs hd hP hD hS => W.vret B.exec B.bytes B.returns (fun t ht _ => ⟨⟨w, rfl, trivial, by show va_P ω.1 vwCl (Wf w) t.heap ∧ va_D (va_A ws0 sz) (Wf w); rw [ht]; exact ⟨hP, hD⟩⟩, hS.F ht⟩) hS.2.2 hd (hlocks := B.notSynchronized))
theorem g_entLr (hC : y.cls = C) (hy : plainName C = true) (hlen : (lg_sl av).length ≤ nL)
    (body : ∀ (p : Program) (e : Env) (s : State) (m : MethodId) (args : Array Value) (below : List Frame) (meth : Method) (c : Code) (QQ : State → Prop) (ls : Array Slot) (H : Heap) (locs : List Loc), CallFix p m c cc nL s args lw_all C → Kp s → s.heap.size = sz → H = s.heap → va_P ω.1 vwCl ws0 H → va_S (va_A ws0 sz) s.heap H locs → lv_has ls nL (lv_args 0 av) →
      (∀ (pc : Nat) (ls : Array Slot) (w : Nat) (H : Heap) (locs : List Loc), decode cc pc = .ok (.areturn, 1) → va_P ω.1 vwCl (Wf w) H → va_D (va_A ws0 sz) (Wf w) → va_S (va_A ws0 sz) s.heap H locs → W p l e rm s m args below meth c H locs mc ms QQ (F0 m pc ls [.ref w])) →
      W p l e rm s m args below meth c H locs 0 0 QQ (F0 m 0 ls [])) : Met l y (ws_ y cc nL (some (.array (.object "java/lang/Object")))) rm (cPc ω av Kp sz ws0) (lQr ω sz ws0 Wf) mc ms (va_A ws0 sz) := by
  subst hC
  refine Met.ofW (cc := cc) (maxL := nL) (ret := (some (.array (.object "java/lang/Object")))) hy rfl ?_
  intro p e s m args below meth c s₁ B hml hv
  obtain ⟨rfl, hk, hs, hh⟩ := hv
  have hts := atoms_spec (ws := ws_ y cc nL (some (.array (.object "java/lang/Object")))) B.pre
  have hts : ∀ w ∈ lw_all, w.before _ s = true := fun w h => hts w (List.mem_cons_of_mem _ h)
  rw [lg_entry_eq]
  exact body p e s m _ below meth c _ _ _ _ ⟨B.exec, B.bytes, hml, findClass_of_methodNamed B.named, hts⟩ hk hs rfl hh va_S.rf (lv_entry av hlen) (fun pc ls w H locs hd hP hD hS => W.aret B.exec B.bytes B.returns (Or.inr ⟨_, rfl⟩) (Or.inr ⟨_, rfl⟩) (fun t ht _ => ⟨⟨(), w, rfl, trivial, by show va_P ω.1 vwCl (Wf w) t.heap ∧ va_D (va_A ws0 sz) (Wf w); rw [ht]; exact ⟨hP, hD⟩⟩, hS.F ht⟩) hS.2.2 hd (hlocks := B.notSynchronized))
variable {p : Program} {e : Env} {R : Room} {s : State} {m : MethodId} {args : Array Value} {below : List Frame} {meth : Method} {c : Code} {H : Heap} {locs : List Loc} {cells slots : Nat} {Q : State → Prop}
variable {bytes : ByteArray} {maxL index : Nat} {ret : Option FieldType} {own : String} {b : Addr} {As rest st0 : List Value} {pc : Nat} {ls : Array Slot} {A : Nat → Prop} {wc : va_W}
theorem g_vLi {r0 : Int32} (hF : CallFix p m c cc nL s args lw_all own) (hM : Met l y (ws_ y bytes maxL ret) rm (cPc ω (.ref b :: As) Kp H.size wc) (lQi ω H.size wc r0 Wf) mc ms (va_A wc H.size)) (hG : GoodIn lw_all (wsV own index C y (ws_ y bytes maxL ret))) (n : Nat) (hd : y.cls = C ∧ y.cls ≠ "java/lang/invoke/MethodHandle" ∧ y.cls ≠ "java/lang/invoke/VarHandle" ∧ (parseMethodDescriptor y.desc).map (fun d => d.parameters.length) = some n) (hrc : rm.cells = mc) (hrs : rm.slots = ms) (hR : rm.frames + 1 ≤ R.frames ∧ 8 + (maxL + 11) + rm.locals ≤ R.locals)
    (hbl : ∀ (a : Array Value) (U : State) (g : JFrame) (mk : MethodId), Kp U → Kp (U.calling g mk a)) (hKp : ∀ U : State, U.heap = H → s.WarmedH U.vm → Kp U) (hrecv : ∃ cell : Cell, H[b]? = some cell ∧ cell.vm.isStatics = false ∧ s.vm.findClass C = some cell.cls)
    (hP : va_P ω.1 vwCl wc H) (hS : va_S A s.heap H locs) (hfr : ∀ q, va_A wc H.size q → A q)
    (hn : As.length = n) (hls : ls.size = nL) (hst : st0 = As.reverse ++ .ref b :: rest) (hW : (rest.map fun v => v.category).sum ≤ 8) (hdg : decode cc pc = .ok (.invokevirtual index, 3)) (hcap : cells + mc ≤ R.cells ∧ slots + ms ≤ R.slots)
    (kk : ∀ (w : Nat) (H1 : Heap) (locs : List Loc), va_P ω.1 vwCl (Wf w) H1 → va_D (va_A wc H.size) (Wf w) → H.size ≤ H1.size → (∀ x : Nat, x < H.size → ¬ va_A wc H.size x → H1[x]? = H[x]?) → va_S A s.heap H1 locs → W p l e R s m args below meth c H1 locs (cells + mc) (slots + ms) Q (F0 m (pc + 3) ls (.int r0 :: rest))) : W p l e R s m args below meth c H locs cells slots Q (F0 m pc ls st0) := by
  refine va_calli (va_runV (As := As) (rest := rest) hF hM (cwV n hF.2.2.2.2 hG rfl hrc hrs hd hR) ⟨fun a U g mk q => ⟨q.1, hbl a U g mk q.2.1, q.2.2.1, q.2.2.2⟩, hrecv, fun U hU hW => ⟨rfl, hKp U hU hW, by rw [hU], by rw [hU]; exact hP⟩⟩ rfl hn hls hst (lv_room hW) hdg hcap) hS (fun q _ h => hfr q h) hfr (fun r w t H1 locs1 ht _ hr hB hsz hk hS1 => ?_)
  rw [ht] at hB
  subst hr
  exact kk w H1 locs1 hB.1 hB.2 hsz hk hS1
theorem g_vLv (hF : CallFix p m c cc nL s args lw_all own) (hM : Met l y (ws_ y bytes maxL ret) rm (cPc ω (.ref b :: As) Kp H.size wc) (lQv ω H.size wc Wf) mc ms (va_A wc H.size)) (hG : GoodIn lw_all (wsV own index C y (ws_ y bytes maxL ret))) (n : Nat) (hd : y.cls = C ∧ y.cls ≠ "java/lang/invoke/MethodHandle" ∧ y.cls ≠ "java/lang/invoke/VarHandle" ∧ (parseMethodDescriptor y.desc).map (fun d => d.parameters.length) = some n) (hrc : rm.cells = mc) (hrs : rm.slots = ms) (hR : rm.frames + 1 ≤ R.frames ∧ 8 + (maxL + 11) + rm.locals ≤ R.locals)
    (hbl : ∀ (a : Array Value) (U : State) (g : JFrame) (mk : MethodId), Kp U → Kp (U.calling g mk a)) (hKp : ∀ U : State, U.heap = H → s.WarmedH U.vm → Kp U) (hrecv : ∃ cell : Cell, H[b]? = some cell ∧ cell.vm.isStatics = false ∧ s.vm.findClass C = some cell.cls)
    (hP : va_P ω.1 vwCl wc H) (hS : va_S A s.heap H locs) (hfr : ∀ q, va_A wc H.size q → A q)
    (hn : As.length = n) (hls : ls.size = nL) (hst : st0 = As.reverse ++ .ref b :: rest) (hW : (rest.map fun v => v.category).sum ≤ 8) (hdg : decode cc pc = .ok (.invokevirtual index, 3)) (hcap : cells + mc ≤ R.cells ∧ slots + ms ≤ R.slots)
    (kk : ∀ (w : Nat) (H1 : Heap) (locs : List Loc), va_P ω.1 vwCl (Wf w) H1 → va_D (va_A wc H.size) (Wf w) → H.size ≤ H1.size → (∀ x : Nat, x < H.size → ¬ va_A wc H.size x → H1[x]? = H[x]?) → va_S A s.heap H1 locs → W p l e R s m args below meth c H1 locs (cells + mc) (slots + ms) Q (F0 m (pc + 3) ls rest)) : W p l e R s m args below meth c H locs cells slots Q (F0 m pc ls st0) := by
  refine va_callv (va_runV (As := As) (rest := rest) hF hM (cwV n hF.2.2.2.2 hG rfl hrc hrs hd hR) ⟨fun a U g mk q => ⟨q.1, hbl a U g mk q.2.1, q.2.2.1, q.2.2.2⟩, hrecv, fun U hU hW => ⟨rfl, hKp U hU hW, by rw [hU], by rw [hU]; exact hP⟩⟩ rfl hn hls hst (lv_room hW) hdg hcap) hS (fun q _ h => hfr q h) hfr (fun w t H1 locs1 ht _ _ hB hsz hk hS1 => ?_)
  rw [ht] at hB
  skip
  exact kk w H1 locs1 hB.1 hB.2 hsz hk hS1
theorem g_vLr (hF : CallFix p m c cc nL s args lw_all own) (hM : Met l y (ws_ y bytes maxL ret) rm (cPc ω (.ref b :: As) Kp H.size wc) (lQr ω H.size wc Wf) mc ms (va_A wc H.size)) (hG : GoodIn lw_all (wsV own index C y (ws_ y bytes maxL ret))) (n : Nat) (hd : y.cls = C ∧ y.cls ≠ "java/lang/invoke/MethodHandle" ∧ y.cls ≠ "java/lang/invoke/VarHandle" ∧ (parseMethodDescriptor y.desc).map (fun d => d.parameters.length) = some n) (hrc : rm.cells = mc) (hrs : rm.slots = ms) (hR : rm.frames + 1 ≤ R.frames ∧ 8 + (maxL + 11) + rm.locals ≤ R.locals)
    (hbl : ∀ (a : Array Value) (U : State) (g : JFrame) (mk : MethodId), Kp U → Kp (U.calling g mk a)) (hKp : ∀ U : State, U.heap = H → s.WarmedH U.vm → Kp U) (hrecv : ∃ cell : Cell, H[b]? = some cell ∧ cell.vm.isStatics = false ∧ s.vm.findClass C = some cell.cls)
    (hP : va_P ω.1 vwCl wc H) (hS : va_S A s.heap H locs) (hfr : ∀ q, va_A wc H.size q → A q)
    (hn : As.length = n) (hls : ls.size = nL) (hst : st0 = As.reverse ++ .ref b :: rest) (hW : (rest.map fun v => v.category).sum ≤ 8) (hdg : decode cc pc = .ok (.invokevirtual index, 3)) (hcap : cells + mc ≤ R.cells ∧ slots + ms ≤ R.slots)
    (kk : ∀ (w : Nat) (H1 : Heap) (locs : List Loc), va_P ω.1 vwCl (Wf w) H1 → va_D (va_A wc H.size) (Wf w) → H.size ≤ H1.size → (∀ x : Nat, x < H.size → ¬ va_A wc H.size x → H1[x]? = H[x]?) → va_S A s.heap H1 locs → W p l e R s m args below meth c H1 locs (cells + mc) (slots + ms) Q (F0 m (pc + 3) ls (.ref w :: rest))) : W p l e R s m args below meth c H locs cells slots Q (F0 m pc ls st0) := by
  refine va_callr (va_runV (As := As) (rest := rest) hF hM (cwV n hF.2.2.2.2 hG rfl hrc hrs hd hR) ⟨fun a U g mk q => ⟨q.1, hbl a U g mk q.2.1, q.2.2.1, q.2.2.2⟩, hrecv, fun U hU hW => ⟨rfl, hKp U hU hW, by rw [hU], by rw [hU]; exact hP⟩⟩ rfl hn hls hst (lv_room hW) hdg hcap) hS (fun q _ h => hfr q h) hfr (fun _ w t H1 locs1 ht _ _ hB hsz hk hS1 => ?_)
  rw [ht] at hB
  skip
  exact kk w H1 locs1 hB.1 hB.2 hsz hk hS1
end LE
/-- the list's cells: not yet laid, laid -/
def lw0 (la e0 : Nat) (mo : Int32) (n : Nat) : va_W := [(la, .inr (10, [.int mo, .ref e0, .int (nI n)]))]
def lw1 (ω : OM) (la ed : Nat) (mo : Int32) (n : Nat) (f : Nat → Option Nat) : va_W := [(la, .inr (10, [.int mo, .ref ed, .int (nI n)])), (ed, .inl (ω.2.2.2.2.2, 10, .inr (.inr (.inr (.inr f)))))]
/-- what a list that is laid for the first time asks -/
def lK (ω : OM) (e0 : Nat) (A : Nat → Prop) (U : State) : Prop := mK ω U ∧ zE e0 A U ∧ va_T (.object "java/lang/Object") e0 0 (fun _ => .null) A U U.heap ∧ va_AO "java/lang/Object" U
theorem lK.call {ω : OM} {e0 : Nat} {A : Nat → Prop} {U : State} {g : JFrame} {mk : MethodId} {a : Array Value} (h : lK ω e0 A U) : lK ω e0 A (U.calling g mk a) := ⟨va_K.moved (u := U) (U := U.calling g mk a) (Vm.Alike.refl U.vm) h.1, h.2.1.call, va_T.moved (u := U) (U := U.calling g mk a) (Vm.Alike.refl U.vm) h.2.2.1, va_AO.moved (u := U) (U := U.calling g mk a) (Vm.Alike.refl U.vm) h.2.2.2⟩
theorem lK.to {ω : OM} {e0 : Nat} {A B : Nat → Prop} {s U : State} {locs : List Loc} (h : lK ω e0 A s) (hS : va_S A s.heap U.heap locs) (hW : s.WarmedH U.vm) (hAB : ∀ q, B q → A q) : lK ω e0 B U := ⟨h.1.warm hW, h.2.1.to hS hW hAB, ((va_T.moved (U := U) hW.alike h.2.2.1).kept hS.2.1).narrow hAB, va_AO.moved hW.alike h.2.2.2⟩
def rmJ2_grow_2 : Room := { frames := 2, cells := 1, slots := 10, locals := 40 }
theorem kJ2_grow_2 (l : Launch) (ω : OM) (e0 sz la : Nat) (mo : Int32) : Met l yJ2_grow_2 (ws_ yJ2_grow_2 cJ2_grow_2 4 (some (.array (.object "java/lang/Object")))) rmJ2_grow_2 (cPc ω [.ref la, .int (nI 1)] (lK ω e0 (va_A (lw0 la e0 mo 0) sz)) sz (lw0 la e0 mo 0)) (lQr ω sz (lw0 la e0 mo 0) (fun q => lw1 ω la q mo 0 (fun _ => none))) 1 10 (va_A (lw0 la e0 mo 0) sz) := by
  refine g_entLr (C := RJ2) rfl (by decide) (Nat.le_of_ble_eq_true rfl) ?_
  intro p e s m args below meth c QQ ls H locs hF hK hsz hHs hP hS hl hret
  have hl : lv_has ls 4 [(0, .ref la), (1, .int (nI 1))] := hl
  have hA : ∀ x, s.heap.size ≤ x → va_A (lw0 la e0 mo 0) sz x := fun x h => Or.inr (by rw [hsz] at h; exact h)
  have hD : va_D (va_A (lw0 la e0 mo 0) sz) (lw0 la e0 mo 0) := va_D_one
  refine lv_aload_n hF.1 hF.2.1 dJ2_grow_2_0 rfl (lv_at hl 0 rfl) ?_
  refine va_get hF.1 hF.2.1 hF.2.2.2.2 in_J2 hF.2.2.2.1 hK.1 hP 0 rfl rfl 1 (by decide) (hF.2.2.2.2 _ q136) (fun _ h => h) rfl dJ2_grow_2_1 ?_
  refine va_tlen hF.1 hF.2.1 hK.2.2.1 hS (v := nI 0) rfl dJ2_grow_2_4 ?_
  refine lv_istore_n (lv' := [(2, .int (nI 0)), (0, .ref la), (1, .int (nI 1))]) hF.1 hF.2.1 dJ2_grow_2_5 rfl hl (by decide) rfl (fun ls hl => ?_)
  refine lv_iload_n hF.1 hF.2.1 dJ2_grow_2_6 rfl (lv_at hl 0 rfl) ?_
  refine lv_if_gt (tgt := 20) hF.1 hF.2.1 dJ2_grow_2_7 (by decide) (fun h => absurd h (by decide)) (fun h => ?_)
  refine lv_aload_n hF.1 hF.2.1 dJ2_grow_2_10 rfl (lv_at hl 1 rfl) ?_
  refine va_get hF.1 hF.2.1 hF.2.2.2.2 in_J2 hF.2.2.2.1 hK.1 hP 0 rfl rfl 1 (by decide) (hF.2.2.2.2 _ q136) (fun _ h => h) rfl dJ2_grow_2_11 ?_
  refine va_gets hF.1 hF.2.1 hK.2.1 hS hF.2.2.2.1 (hF.2.2.2.2 _ q134) (fun _ h => h) dJ2_grow_2_14 ?_
  refine lv_acmp_eq (rx := some e0) (ry := some e0) (tgt := 45) hF.1 hF.2.1 dJ2_grow_2_17 (by decide) (fun _ => ?_) (fun h => absurd rfl h)
  refine lv_aload_n hF.1 hF.2.1 dJ2_grow_2_45 rfl (lv_at hl 1 rfl) ?_
  refine lv_bipush (v := nI 10) hF.1 hF.2.1 dJ2_grow_2_46 (by decide) ?_
  refine lv_iload_n hF.1 hF.2.1 dJ2_grow_2_48 rfl (lv_at hl 2 rfl) ?_
  refine va_mmax hF.1 hF.2.1 (hF.2.2.1.trans hl.1.symm) hF.2.2.2.1 (hF.2.2.2.2 _ q551) (hF.2.2.2.2 _ q515) (hF.2.2.2.2 _ q108) (hF.2.2.2.2 _ q516) (Nat.le_of_ble_eq_true rfl) (Nat.le_of_ble_eq_true rfl) (Nat.le_of_ble_eq_true rfl) (Nat.le_of_ble_eq_true rfl) dJ2_grow_2_49 ?_
  refine n_top (y := nI 10) (by decide) ?_
  refine va_newq (N' := 10) hF.1 hF.2.1 hF.2.2.2.1 (hF.2.2.2.2 _ q552) hK.2.2.2 hK.1 hP hD hS hA (by decide) (by decide) (by decide) (Nat.le_of_ble_eq_true rfl) (Nat.le_of_ble_eq_true rfl) dJ2_grow_2_52 (fun q cA H hK1 hP hD hS => ?_)
  obtain rfl := c_arrO hK1 (i := 2) rfl
  refine lv_dup_x1 hF.1 hF.2.1 dJ2_grow_2_55 rfl rfl ?_
  refine va_put (v := .ref q) (ty := .array (.object "java/lang/Object")) hF.1 hF.2.1 hF.2.2.2.2 in_J2 tyJ2 tyJ2_ok nmJ2 hF.2.2.2.1 hK.1 hP hD hS 0 rfl rfl 1 (by decide) (hF.2.2.2.2 _ q136) (fun _ h => h) rfl (by decide +kernel) rfl rfl (Nat.le_of_ble_eq_true rfl) dJ2_grow_2_56 (fun H locs hP hD hS => ?_)
  exact hret _ _ q _ _ dJ2_grow_2_59 hP hD hS
def rmJ2_grow : Room := { frames := 3, cells := 1, slots := 10, locals := 63 }
theorem l_recv {ω : OM} {s : State} {H : Heap} {ws : va_W} {la : Nat} {fs : List Value} (hK : mK ω s) (hP : va_P ω.1 vwCl ws H) (he : ws[0]? = some (la, .inr (10, fs))) : ∃ cell : Cell, H[la]? = some cell ∧ cell.vm.isStatics = false ∧ s.vm.findClass RJ2 = some cell.cls := va_recv hK hP (ci := 10) (q0 := 0) rfl he
theorem kJ2_grow (l : Launch) (ω : OM) (e0 sz la : Nat) (mo : Int32) : Met l yJ2_grow (ws_ yJ2_grow cJ2_grow 1 (some (.array (.object "java/lang/Object")))) rmJ2_grow (cPc ω [.ref la] (lK ω e0 (va_A (lw0 la e0 mo 0) sz)) sz (lw0 la e0 mo 0)) (lQr ω sz (lw0 la e0 mo 0) (fun q => lw1 ω la q mo 0 (fun _ => none))) 1 10 (va_A (lw0 la e0 mo 0) sz) := by
  refine g_entLr (C := RJ2) rfl (by decide) (Nat.le_of_ble_eq_true rfl) ?_
  intro p e s m args below meth c QQ ls H locs hF hK hsz hHs hP hS hl hret
  have hl : lv_has ls 1 [(0, .ref la)] := hl
  subst hHs
  subst hsz
  refine lv_aload_n hF.1 hF.2.1 dJ2_grow_0 rfl (lv_at hl 0 rfl) ?_
  refine lv_aload_n hF.1 hF.2.1 dJ2_grow_1 rfl (lv_at hl 0 rfl) ?_
  refine va_get hF.1 hF.2.1 hF.2.2.2.2 in_J2 hF.2.2.2.1 hK.1 hP 0 rfl rfl 2 (by decide) (hF.2.2.2.2 _ q137) (fun _ h => h) rfl dJ2_grow_2 ?_
  refine lv_iconst (v := nI 1) hF.1 hF.2.1 dJ2_grow_5 (by decide) ?_
  refine n_iadd hF.1 hF.2.1 dJ2_grow_6 ?_
  refine g_vLr (As := [.int (nI (0 + 1))]) (rest := []) hF (kJ2_grow_2 l ω e0 _ la mo) (lw_V q507 q509 qs8 q95 q510) 1 (by decide +kernel) rfl rfl ⟨Nat.le_of_ble_eq_true rfl, Nat.le_of_ble_eq_true rfl⟩ (fun a U g mk h => h.call) (fun U hU hW => hK.to (U := U) (by rw [hU]; exact hS) hW (fun _ z => z)) (l_recv hK.1 hP rfl) hP hS (fun _ z => z) rfl hl.1 rfl (Nat.le_of_ble_eq_true rfl) dJ2_grow_7 ⟨Nat.le_of_ble_eq_true rfl, Nat.le_of_ble_eq_true rfl⟩ (fun q H1 locs hP hD _ _ hS => ?_)
  exact hret _ _ q _ _ dJ2_grow_10 hP hD hS

