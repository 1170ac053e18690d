/-! THE READER: what holds all the time; new cells beside its world; want -/
set_option maxRecDepth 100000
/-- streets are objects -/
def xO (U : State) : Prop := va_Nw (.castable "HurtStreets$Street" "java/lang/Object") U ∧ va_Nw (.castable "HurtStreets$Loss" "java/lang/Object") U ∧ va_Nw (.castable "HurtStreets$Quarrel" "java/lang/Object") U ∧ va_Nw (.castable "HurtStreets$Joy" "java/lang/Object") U ∧ va_Nw (.castable "HurtStreets$Grief" "java/lang/Object") U
theorem xO.warm {s U : State} (h : xO s) (hW : s.WarmedH U.vm) : xO U := ⟨h.1.warmC hW, h.2.1.warmC hW, h.2.2.1.warmC hW, h.2.2.2.1.warmC hW, h.2.2.2.2.warmC hW⟩
theorem xO.call {U : State} {g : JFrame} {mk : MethodId} {a : Array Value} (h : xO U) : xO (U.calling g mk a) := ⟨h.1.same rfl rfl, h.2.1.same rfl rfl, h.2.2.1.same rfl rfl, h.2.2.2.1.same rfl rfl, h.2.2.2.2.same rfl rfl⟩
def stK (ω : OM) (e0 : Nat) (v1 v2 : Value) (U : State) : Prop := zE e0 ω.2.2.1 U ∧ va_T (.object "java/lang/Object") e0 0 (fun _ => .null) ω.2.2.1 U U.heap ∧ zT v1 v2 ω.2.2.1 U ∧ (va_AO "java/lang/Object" U ∧ xO U) ∧ ∀ q, U.heap.size ≤ q → ω.2.2.1 q
def yK (ω : OM) (e0 : Nat) (v1 v2 : Value) (U : State) : Prop := xK ω U ∧ stK ω e0 v1 v2 U
theorem xK.call {ω : OM} {U : State} {g : JFrame} {mk : MethodId} {a : Array Value} (h : xK ω U) : xK ω (U.calling g mk a) := ⟨va_K.moved (u := U) (U := U.calling g mk a) (Vm.Alike.refl U.vm) h.1, h.2.call⟩
theorem yK.call {ω : OM} {e0 : Nat} {v1 v2 : Value} {U : State} {g : JFrame} {mk : MethodId} {a : Array Value} (h : yK ω e0 v1 v2 U) : yK ω e0 v1 v2 (U.calling g mk a) :=
  ⟨h.1.call, h.2.1.call, va_T.moved (u := U) (U := U.calling g mk a) (Vm.Alike.refl U.vm) h.2.2.1, h.2.2.2.1.call, ⟨va_AO.moved (u := U) (U := U.calling g mk a) (Vm.Alike.refl U.vm) h.2.2.2.2.1.1, h.2.2.2.2.1.2.call⟩, h.2.2.2.2.2⟩
theorem yK.to {ω : OM} {e0 : Nat} {v1 v2 : Value} {s U : State} {locs : List Loc} (h : yK ω e0 v1 v2 s) (hS : va_S ω.2.2.1 s.heap U.heap locs) (hW : s.WarmedH U.vm) : yK ω e0 v1 v2 U :=
  ⟨h.1.warm hW, h.2.1.to hS hW (fun _ z => z), (va_T.moved (U := U) hW.alike h.2.2.1).kept hS.2.1, h.2.2.2.1.to hS hW (fun _ z => z), ⟨va_AO.moved hW.alike h.2.2.2.2.1.1, h.2.2.2.2.1.2.warm hW⟩, fun q hq => h.2.2.2.2.2 q (Nat.le_trans hS.1 hq)⟩
section YN
variable {p : Program} {l : Launch} {e : Env} {R : Room} {s : State} {m : MethodId} {args : Array Value} {below : List Frame} {meth : Method} {c : Code} {H : Heap} {locs : List Loc} {cells slots : Nat} {Q : State → Prop} {cc : ByteArray} {pc nL index : Nat} {ls : Array Slot} {rest : List Value} {ω : OM} {σ : RA} {own : String} {u : XS} {A : Nat → Prop}
/-- a new object beside any world -/
theorem g_new (hF : CallFix p m c cc nL s args lw_all own) {C : String} {T : u_T} {N ci : Nat} (hin : ∀ w ∈ u_ws C T N, w ∈ lw_all) (ty : Nat → FieldType) (hty : ∀ k, k < N → parseFieldDescriptor (T k).2.2.1 = some (ty k)) (hcl : Cond.classLink own index C ∈ lw_all) (hinst : Cond.instantiable C N ∈ lw_all) (hini : Cond.initialized C ∈ lw_all)
    {tys : List (ClassId × FieldType)} (hK : va_K ω.1 vwCl tys s) (hS : va_S A s.heap H locs) (hc : vwCl[ci]? = some (C, T, N)) {fs : List Value} (hfs : ∀ j, j < N → defaultValue (ty j) = vp_V fs j) (hcells : cells + 1 ≤ R.cells) (hslots : slots + N ≤ R.slots) (hdg : decode cc pc = .ok (.new index, 3))
    (kk : ∀ (H1 : Heap), H1.size = H.size + 1 → (∀ x : Nat, x < H.size → H1[x]? = H[x]?) → va_P ω.1 vwCl [(H.size, .inr (ci, fs))] H1 → va_S A s.heap H1 locs →
      W p l e R s m args below meth c H1 locs (cells + 1) (slots + N) Q (F0 m (pc + 3) ls (.ref H.size :: rest))) : W p l e R s m args below meth c H locs cells slots Q (F0 m pc ls rest) := by
  have hKn := hK.1 ci _ hc
  refine W.newcK hF.1 hF.2.1 hF.2.2.2.1 (hF.2.2.2.2 _ hcl) (hF.2.2.2.2 _ hinst) (hF.2.2.2.2 _ hini) rfl hdg hcells hslots hKn.2.1 rfl fun H1 kC hkC e1 z1 o1 => ?_
  refine kk H1 z1 o1 (fun k x hx => ?_) ⟨Nat.le_trans hS.1 (by omega), fun x h1 h2 => (o1 x (Nat.lt_of_lt_of_le h1 hS.1)).trans (hS.2.1 x h1 h2), hS.2.2⟩
  have hz : k < 1 := (List.getElem?_eq_some_iff.mp hx).1
  rw [show k = 0 by omega] at hx
  cases hx
  exact ⟨_, hc, (u_born ty hF.2.2.2.2 hin hKn hkC e1 hty).to hfs⟩
variable {y : MethodName} {bytes : ByteArray} {maxL mc ms : Nat} {rm : Room} {As st0 : List Value} {b : Addr} {Kp : State → Prop} {Wf : (Nat → Nat) → va_W} {ee : va_E}
/-- a constructor's call on one cell; the rest of the heap is kept -/
theorem g_iCf (hF : CallFix p m c cc nL s args lw_all own) (hM : Met l y (ws_ y bytes maxL none) rm (cPc ω (.ref b :: As) Kp H.size [(b, ee)]) (cQc ω H.size [(b, ee)] Wf) mc ms (va_A [(b, ee)] H.size)) (hG : GoodIn lw_all (ws_ y bytes maxL none)) (hl : Cond.methodLink own index y ∈ lw_all) (hini : Cond.initialized y.cls ∈ lw_all) (hin : Cond.instanceMethod y ∈ lw_all) (n : Nat) (hd : y.name = "<init>" ∧ y.cls ≠ "java/lang/invoke/MethodHandle" ∧ y.cls ≠ "java/lang/invoke/VarHandle" ∧ (parseMethodDescriptor y.desc).map (fun d => d.parameters.length) = some n) (hrc : rm.cells = mc) (hrs : rm.slots = ms) (hR : rm.frames + 1 ≤ R.frames ∧ 8 + (maxL + 11) + rm.locals ≤ R.locals)
    (hbl : ∀ (a : Array Value) (U : State) (g : JFrame) (mk : MethodId), Kp U → Kp (U.calling g mk a)) (hKp : ∀ U : State, U.heap = H → s.WarmedH U.vm → Kp U)
    (hP : va_P ω.1 vwCl [(b, ee)] H) (hS : va_S A s.heap H locs) (hAb : A b) (hA : ∀ q, s.heap.size ≤ q → A q)
    (hn : As.length = n) (hls : ls.size = nL) (hst : st0 = As.reverse ++ .ref b :: rest) (hW : (rest.map fun v => v.category).sum ≤ 8) (hdg : decode cc pc = .ok (.invokespecial index, 3)) (hcap : cells + mc ≤ R.cells ∧ slots + ms ≤ R.slots)
    (kk : ∀ (w : Nat → Nat) (H1 : Heap) (locs : List Loc), va_P ω.1 vwCl (Wf w) H1 → va_D (va_A [(b, ee)] H.size) (Wf w) → H.size ≤ H1.size → (∀ x : Nat, x < H.size → x ≠ b → H1[x]? = H[x]?) → va_S A s.heap H1 locs → W p l e R s m args below meth c H1 locs (cells + mc) (slots + ms) Q (F0 m (pc + 3) ls rest)) : W p l e R s m args below meth c H locs cells slots Q (F0 m pc ls st0) := by
  have hfr : ∀ q, va_A [(b, ee)] H.size q → A q := by
    intro q hq
    rcases hq with ⟨k, e1, h⟩ | h
    · have hz : k < 1 := (List.getElem?_eq_some_iff.mp h).1
      rw [show k = 0 by omega] at h
      cases h
      exact hAb
    · exact hA q (Nat.le_trans hS.1 h)
  refine va_callv (va_runI (As := As) (rest := rest) hF hM (cwI n hF.2.2.2.2 hG rfl hrc hrs (hF.2.2.2.2 _ hini) (hF.2.2.2.2 _ hl) (hF.2.2.2.2 _ hin) hd.1 hd.2 hR) ⟨fun a U g mk q => ⟨q.1, hbl a U g mk q.2.1, q.2.2.1, q.2.2.2⟩, fun U hU hW => ⟨rfl, hKp U hU hW, by rw [hU], by rw [hU]; exact hP⟩⟩ rfl hn hls hst (lv_room hW) hdg hcap) hS (fun q _ h => hfr q h) hfr (fun w t H1 locs1 ht _ _ hB hsz hk hS1 => ?_)
  rw [ht] at hB
  refine kk w H1 locs1 hB.1 hB.2 hsz (fun x hx hxb => hk x hx (fun z => ?_)) hS1
  rcases z with ⟨k, e1, h⟩ | h
  · have hz : k < 1 := (List.getElem?_eq_some_iff.mp h).1
    rw [show k = 0 by omega] at h
    cases h
    exact hxb rfl
  · omega
/-- the same of a nest mate -/
theorem g_iNCf {host : String} (hF : CallFix p m c cc nL s args lw_all own) (hM : Met l y (ws_ y bytes maxL none) rm (cPc ω (.ref b :: As) Kp H.size [(b, ee)]) (cQc ω H.size [(b, ee)] Wf) mc ms (va_A [(b, ee)] H.size)) (hG : GoodIn lw_all (ws_ y bytes maxL none)) (hl : va_Nw (.methodLinkNest own index y host) s) (hini : Cond.initialized y.cls ∈ lw_all) (hin : Cond.instanceMethod y ∈ lw_all) (n : Nat) (hd : y.name = "<init>" ∧ y.cls ≠ "java/lang/invoke/MethodHandle" ∧ y.cls ≠ "java/lang/invoke/VarHandle" ∧ (parseMethodDescriptor y.desc).map (fun d => d.parameters.length) = some n) (hrc : rm.cells = mc) (hrs : rm.slots = ms) (hR : rm.frames + 1 ≤ R.frames ∧ 8 + (maxL + 11) + rm.locals ≤ R.locals)
    (hbl : ∀ (a : Array Value) (U : State) (g : JFrame) (mk : MethodId), Kp U → Kp (U.calling g mk a)) (hKp : ∀ U : State, U.heap = H → s.WarmedH U.vm → Kp U)
    (hP : va_P ω.1 vwCl [(b, ee)] H) (hS : va_S A s.heap H locs) (hAb : A b) (hA : ∀ q, s.heap.size ≤ q → A q)
    (hn : As.length = n) (hls : ls.size = nL) (hst : st0 = As.reverse ++ .ref b :: rest) (hW : (rest.map fun v => v.category).sum ≤ 8) (hdg : decode cc pc = .ok (.invokespecial index, 3)) (hcap : cells + mc ≤ R.cells ∧ slots + ms ≤ R.slots)
    (kk : ∀ (w : Nat → Nat) (H1 : Heap) (locs : List Loc), va_P ω.1 vwCl (Wf w) H1 → va_D (va_A [(b, ee)] H.size) (Wf w) → H.size ≤ H1.size → (∀ x : Nat, x < H.size → x ≠ b → H1[x]? = H[x]?) → va_S A s.heap H1 locs → W p l e R s m args below meth c H1 locs (cells + mc) (slots + ms) Q (F0 m (pc + 3) ls rest)) : W p l e R s m args below meth c H locs cells slots Q (F0 m pc ls st0) := by
  have hfr : ∀ q, va_A [(b, ee)] H.size q → A q := by
    intro q hq
    rcases hq with ⟨k, e1, h⟩ | h
    · have hz : k < 1 := (List.getElem?_eq_some_iff.mp h).1
      rw [show k = 0 by omega] at h
      cases h
      exact hAb
    · exact hA q (Nat.le_trans hS.1 h)
  refine va_callv (va_runIN (As := As) (rest := rest) hF hM ⟨va_cnB n hF.2.2.2.2 hG rfl hrc hrs hl (hF.2.2.2.2 _ hini) hd.2 hR, hd.1, hF.2.2.2.2 _ hin⟩ ⟨fun a U g mk q => ⟨q.1, hbl a U g mk q.2.1, q.2.2.1, q.2.2.2⟩, fun U hU hW => ⟨rfl, hKp U hU hW, by rw [hU], by rw [hU]; exact hP⟩⟩ rfl hn hls hst (lv_room hW) hdg hcap) hS (fun q _ h => hfr q h) hfr (fun w t H1 locs1 ht _ _ hB hsz hk hS1 => ?_)
  rw [ht] at hB
  refine kk w H1 locs1 hB.1 hB.2 hsz (fun x hx hxb => hk x hx (fun z => ?_)) hS1
  rcases z with ⟨k, e1, h⟩ | h
  · have hz : k < 1 := (List.getElem?_eq_some_iff.mp h).1
    rw [show k = 0 by omega] at h
    cases h
    exact hxb rfl
  · omega
end YN
theorem gw_P.lt {D : va_G} {cl : List vw_C} {I : Nat → Nat → Bool} {ad : Nat → Nat → Nat} {E : Nat → Nat → va_E} {H : Heap} (h : gw_P D cl I ad E H) {o k : Nat} (hi : I o k = true) : ad o k < H.size := (h o k hi).lt
theorem yH.kept {ω : OM} {σ : RA} {u : XS} {ρ : RD} {H H1 : Heap} (h : yH ω σ u ρ H) (hk : ∀ x : Nat, x < H.size → H1[x]? = H[x]?) : yH ω σ u ρ H1 := ⟨h.1.kept (fun o k hi => hk _ (h.1.lt hi)), h.2⟩
/-- a Stop beside the reader's world -/
theorem yH.stop {ω : OM} {σ : RA} {u : XS} {pl pp n : Nat} {tf : Nat → Int32} {rt : TW} {cu : CU} {b2 b3 q : Nat} {H : Heap} (h : yH ω σ u (pl, pp, tf, rt, cu, (false, b2, b3)) H) (hq : va_P ω.1 vwCl [(q, .inr (4, soF n))] H) (hA : ω.2.2.1 q) (hf : ∀ o k, yI u.2.2.2.2.2.2 (pl, pp, tf, rt, cu, (false, b2, b3)) o k = true → yad ω σ u.2.2.2.2.2.2 (pl, pp, tf, rt, cu, (false, b2, b3)) o k ≠ q) : yH ω σ u (pl, pp, tf, rt, cu, (true, q, n)) H := by
  have key : ∀ o k, yI u.2.2.2.2.2.2 (pl, pp, tf, rt, cu, (true, q, n)) o k = true → (o = 5 ∧ k = 51) ∨ (yI u.2.2.2.2.2.2 (pl, pp, tf, rt, cu, (false, b2, b3)) o k = true ∧ yad ω σ u.2.2.2.2.2.2 (pl, pp, tf, rt, cu, (true, q, n)) o k = yad ω σ u.2.2.2.2.2.2 (pl, pp, tf, rt, cu, (false, b2, b3)) o k ∧ yE ω σ u (pl, pp, tf, rt, cu, (true, q, n)) o k = yE ω σ u (pl, pp, tf, rt, cu, (false, b2, b3)) o k) := by
    intro o k hi
    by_cases hx : o = 5 ∧ k = 51
    · exact Or.inl hx
    · refine Or.inr ?_
      match o, hx, hi with
      | 0, _, hi => exact ⟨hi, rfl, rfl⟩
      | 1, _, hi => exact ⟨hi, rfl, rfl⟩
      | 2, _, hi => exact ⟨hi, rfl, rfl⟩
      | 3, _, hi => exact ⟨hi, rfl, rfl⟩
      | 4, _, hi => exact ⟨hi, rfl, rfl⟩
      | 5, hx, hi =>
        have hk : ¬ k = 51 := fun z => hx ⟨rfl, z⟩
        refine ⟨?_, ?_, ?_⟩
        · simpa [yI, hk] using hi
        · show (if k = 50 then _ else if k = 51 then _ else _) = (if k = 50 then _ else if k = 51 then _ else _)
          rw [if_neg hk, if_neg hk]
        · show (if k = 50 then _ else if k = 51 then _ else _) = (if k = 50 then _ else if k = 51 then _ else _)
          rw [if_neg hk, if_neg hk]
      | j + 6, _, hi => exact ⟨hi, rfl, rfl⟩
  refine ⟨fun o k hi => ?_, ⟨fun o k o' k' hi hi' ha => ?_, fun o k hi => ?_⟩, h.2.2.1, h.2.2.2⟩
  · rcases key o k hi with ⟨rfl, rfl⟩ | ⟨h1, h2, h3⟩
    · exact hq 0 _ rfl
    · rw [h2, h3]; exact h.1 o k h1
  · rcases key o k hi with ⟨rfl, rfl⟩ | ⟨h1, h2, h3⟩ <;> rcases key o' k' hi' with ⟨rfl, rfl⟩ | ⟨h1', h2', h3'⟩
    · exact ⟨rfl, rfl⟩
    · rw [h2'] at ha; exact absurd ha.symm (hf o' k' h1')
    · rw [h2] at ha; exact absurd ha (hf o k h1)
    · rw [h2, h2'] at ha; exact h.2.1.1 o k o' k' h1 h1' ha
  · rcases key o k hi with ⟨rfl, rfl⟩ | ⟨h1, h2, h3⟩
    · exact hA
    · rw [h2]; exact h.2.1.2 o k h1
