/-! THE CLASS: calls up to a superclass, calls by kind -/
set_option maxRecDepth 100000
theorem lw_SU {own : String} {idx : Nat} {y : MethodName} {b : ByteArray} {L : Nat} {r : Option FieldType} (h1 : Cond.methodLink own idx y ∈ lw_all) (h2 : Cond.sameMethod y.cls y.cls y.name y.desc ∈ lw_all) (h3 : Cond.superclass own y.cls ∈ lw_all) (h4 : Cond.instanceMethod y ∈ lw_all) (h5 : Cond.initialized y.cls ∈ lw_all) (h6 : Cond.code y b L r ∈ lw_all) : GoodIn lw_all (va_wsSU own idx y (ws_ y b L r)) := by
  refine lw_app ?_ (lw_meth h6)
  intro w hw
  simp only [List.mem_cons, List.not_mem_nil, or_false] at hw
  rcases hw with e | e | e | e | e
  · rw [e]; exact h1
  · rw [e]; exact h2
  · rw [e]; exact h3
  · rw [e]; exact h4
  · rw [e]; exact h5
theorem lw_U {own C owner : String} {idx : Nat} {x y : MethodName} {b : ByteArray} {L : Nat} {r : Option FieldType} (h1 : Cond.methodLink own idx x ∈ lw_all) (h2 : Cond.sameMethod x.cls owner x.name x.desc ∈ lw_all) (h3 : Cond.selects C x y ∈ lw_all) (h4 : Cond.instanceMethod y ∈ lw_all) (h5 : Cond.initialized y.cls ∈ lw_all) (h6 : Cond.code y b L r ∈ lw_all) : GoodIn lw_all (va_wsU own idx C owner x y (ws_ y b L r)) := by
  refine lw_app ?_ (lw_meth h6)
  intro w hw
  simp only [List.mem_cons, List.not_mem_nil, or_false] at hw
  rcases hw with e | e | e | e | e
  · rw [e]; exact h1
  · rw [e]; exact h2
  · rw [e]; exact h3
  · rw [e]; exact h4
  · rw [e]; exact h5
theorem lw_O {own C owner : String} {idx : Nat} {x y : MethodName} {b : ByteArray} {L : Nat} {r : Option FieldType} (h1 : Cond.methodLink own idx x ∈ lw_all) (h2 : Cond.sameMethod x.cls owner x.name x.desc ∈ lw_all) (h0 : Cond.instanceMethod ⟨owner, x.name, x.desc⟩ ∈ lw_all) (h3 : Cond.selects C x y ∈ lw_all) (h4 : Cond.instanceMethod y ∈ lw_all) (h5 : Cond.initialized y.cls ∈ lw_all) (h6 : Cond.code y b L r ∈ lw_all) : GoodIn lw_all (va_wsO own idx C owner x y (ws_ y b L r)) := by
  refine lw_app ?_ (lw_meth h6)
  intro w hw
  simp only [List.mem_cons, List.not_mem_nil, or_false] at hw
  rcases hw with e | e | e | e | e | e
  · rw [e]; exact h1
  · rw [e]; exact h2
  · rw [e]; exact h0
  · rw [e]; exact h3
  · rw [e]; exact h4
  · rw [e]; exact h5
section XC
variable {p : Program} {l : Launch} {e : Env} {R : Room} {s : State} {m : MethodId} {args : Array Value} {below : List Frame} {meth : Method} {c : Code} {H : Heap} {locs : List Loc} {cells slots : Nat} {Q : State → Prop} {cc bytes : ByteArray} {pc nL index maxL : Nat} {ls : Array Slot} {rest As st0 : List Value} {ω : OM} {own owner : String} {u : XS} {x y : MethodName} {rm : Room} {ret : Option FieldType} {post : Int32 → Prop}
theorem x_superPi (hF : CallFix p m c cc nL s args lw_all own) (hK : xK ω s) (hH : xH ω u H) {i k : Nat} {q : vw_C} (hi : i < tn u.2.2.2.2.2.2) (hk : tk u.2.2.2.2.2.2 i = k) (hq : vwCl[5 + k]? = some q) (hM : Met l y (ws_ y bytes maxL ret) rm (va_Pc (.ref (tsa u.2.2.2.2.2.2 i) :: As) (fun U => xK ω U ∧ xH ω u U.heap)) (vp_Si post) 0 0 (fun _ => False)) (hG : GoodIn lw_all (va_wsSU own index y (ws_ y bytes maxL ret))) (n : Nat) (hd : y.name ≠ "<init>" ∧ (parseMethodDescriptor y.desc).map (fun d => d.parameters.length) = some n) (hrc : rm.cells = 0) (hrs : rm.slots = 0) (hR : rm.frames + 1 ≤ R.frames ∧ 8 + (maxL + 11) + rm.locals ≤ R.locals) (hn : As.length = n) (hls : ls.size = nL) (hst : st0 = As.reverse ++ .ref (tsa u.2.2.2.2.2.2 i) :: rest) (hW : (rest.map fun v => v.category).sum ≤ 8) (hdg : decode cc pc = .ok (.invokespecial index, 3)) (hcap : cells ≤ R.cells ∧ slots ≤ R.slots)
    (kk : ∀ r : Int32, post r → W p l e R s m args below meth c H locs cells slots Q (F0 m (pc + 3) ls (.int r :: rest))) : W p l e R s m args below meth c H locs cells slots Q (F0 m pc ls st0) :=
  g_runP (mc0 := 0) (va_runSU (As := As) (rest := rest) (hK.1.1 (5 + k) q hq).2 hF hM (va_cwSU n hF.2.2.2.2 hG rfl hrc hrs hd hR) (x_preVS hK hH hi hk hq) rfl hn hls hst (lv_room hW) hdg hcap) kk
theorem x_virtU (hF : CallFix p m c cc nL s args lw_all own) (hK : xK ω s) (hH : xH ω u H) {i k : Nat} {q : vw_C} (hi : i < tn u.2.2.2.2.2.2) (hk : tk u.2.2.2.2.2.2 i = k) (hq : vwCl[5 + k]? = some q) (hM : Met l y (ws_ y bytes maxL ret) rm (va_Pc (.ref (tsa u.2.2.2.2.2.2 i) :: As) (fun U => xK ω U ∧ xH ω u U.heap)) (vp_Si post) 0 0 (fun _ => False)) (hG : GoodIn lw_all (va_wsU own index q.1 owner x y (ws_ y bytes maxL ret))) (n : Nat) (hyx : y = ⟨owner, x.name, x.desc⟩) (hd : owner ≠ "java/lang/invoke/MethodHandle" ∧ owner ≠ "java/lang/invoke/VarHandle" ∧ (parseMethodDescriptor x.desc).map (fun d => d.parameters.length) = some n) (hrc : rm.cells = 0) (hrs : rm.slots = 0) (hR : rm.frames + 1 ≤ R.frames ∧ 8 + (maxL + 11) + rm.locals ≤ R.locals) (hn : As.length = n) (hls : ls.size = nL) (hst : st0 = As.reverse ++ .ref (tsa u.2.2.2.2.2.2 i) :: rest) (hW : (rest.map fun v => v.category).sum ≤ 8) (hdg : decode cc pc = .ok (.invokevirtual index, 3)) (hcap : cells ≤ R.cells ∧ slots ≤ R.slots)
    (kk : ∀ r : Int32, post r → W p l e R s m args below meth c H locs cells slots Q (F0 m (pc + 3) ls (.int r :: rest))) : W p l e R s m args below meth c H locs cells slots Q (F0 m pc ls st0) :=
  g_runP (mc0 := 0) (va_runU (As := As) (rest := rest) hF hM (va_cwU n hF.2.2.2.2 hG rfl hrc hrs hyx hd hR) (x_preVS hK hH hi hk hq) rfl hn hls hst (lv_room hW) hdg hcap) kk
theorem x_virtO (hF : CallFix p m c cc nL s args lw_all own) (hK : xK ω s) (hH : xH ω u H) {i k : Nat} {q : vw_C} (hi : i < tn u.2.2.2.2.2.2) (hk : tk u.2.2.2.2.2.2 i = k) (hq : vwCl[5 + k]? = some q) (hM : Met l y (ws_ y bytes maxL ret) rm (va_Pc (.ref (tsa u.2.2.2.2.2.2 i) :: As) (fun U => xK ω U ∧ xH ω u U.heap)) (vp_Si post) 0 0 (fun _ => False)) (hG : GoodIn lw_all (va_wsO own index q.1 owner x y (ws_ y bytes maxL ret))) (n : Nat) {b0 : ByteArray} {m0 : Nat} {r0 : Option FieldType} (h0 : Cond.code ⟨owner, x.name, x.desc⟩ b0 m0 r0 ∈ lw_all) (hd : owner ≠ "java/lang/invoke/MethodHandle" ∧ owner ≠ "java/lang/invoke/VarHandle" ∧ (parseMethodDescriptor x.desc).map (fun d => d.parameters.length) = some n) (hrc : rm.cells = 0) (hrs : rm.slots = 0) (hR : rm.frames + 1 ≤ R.frames ∧ 8 + (maxL + 11) + rm.locals ≤ R.locals) (hn : As.length = n) (hls : ls.size = nL) (hst : st0 = As.reverse ++ .ref (tsa u.2.2.2.2.2.2 i) :: rest) (hW : (rest.map fun v => v.category).sum ≤ 8) (hdg : decode cc pc = .ok (.invokevirtual index, 3)) (hcap : cells ≤ R.cells ∧ slots ≤ R.slots)
    (kk : ∀ r : Int32, post r → W p l e R s m args below meth c H locs cells slots Q (F0 m (pc + 3) ls (.int r :: rest))) : W p l e R s m args below meth c H locs cells slots Q (F0 m pc ls st0) :=
  g_runP (mc0 := 0) (va_runU (As := As) (rest := rest) hF hM (va_cwO n hF.2.2.2.2 hG rfl hrc hrs h0 hd hR) (x_preVS hK hH hi hk hq) rfl hn hls hst (lv_room hW) hdg hcap) kk
end XC
