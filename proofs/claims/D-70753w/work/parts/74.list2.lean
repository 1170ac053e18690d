/-! THE LIST: add, clear (gen/list2.py) -/
set_option maxRecDepth 100000
theorem va_Any.kept {E : String} {s : State} {H H1 : Heap} {a : Nat} (h : va_Any E s H a) (hk : H1[a]? = H[a]?) : va_Any E s H1 a := by
  obtain ⟨cell, h1, h2⟩ := h
  exact ⟨cell, by rw [hk]; exact h1, h2⟩
theorem va_Any.moved {E : String} {s U : State} {H : Heap} {a : Nat} (hvm : s.vm.Alike U.vm) (hE : ∃ comp, s.vm.findClass E = some comp) (h : va_Any E s H a) : va_Any E U H a := by
  obtain ⟨cell, h1, h2, ⟨kC, hkC⟩, h4⟩ := h
  obtain ⟨k', hk', -⟩ := hvm.2.2 _ _ hkC
  obtain ⟨c0, hc0⟩ := hE
  refine ⟨cell, h1, h2, ⟨k', hk'⟩, fun comp hc => ?_⟩
  have e1 : s.vm.findClass E = some comp := by rw [← hvm.findClass]; exact hc
  rw [hvm.assignable]
  exact h4 comp e1
/-- what adding an object asks of it -/
def anyK (v : Nat) (U : State) : Prop := va_Any "java/lang/Object" U U.heap v ∧ ∃ comp, U.vm.findClass "java/lang/Object" = some comp
theorem anyK.call {v : Nat} {U : State} {g : JFrame} {mk : MethodId} {a : Array Value} (h : anyK v U) : anyK v (U.calling g mk a) := h
theorem anyK.to {v : Nat} {s U : State} (h : anyK v s) (hk : U.heap[v]? = s.heap[v]?) (hW : s.WarmedH U.vm) : anyK v U := by
  refine ⟨(h.1.kept hk).moved hW.alike h.2, ?_⟩
  obtain ⟨c0, hc0⟩ := h.2
  exact ⟨c0, by rw [hW.alike.findClass]; exact hc0⟩
theorem anyK.lt {v : Nat} {U : State} (h : anyK v U) : v < U.heap.size := by
  obtain ⟨⟨cell, h1, -⟩, -⟩ := h
  exact (Array.getElem?_eq_some_iff.mp h1).1
theorem va_D_two {a b sz : Nat} {e1 e2 : va_E} (h : a ≠ b) : va_D (va_A [(a, e1), (b, e2)] sz) [(a, e1), (b, e2)] := by
  refine ⟨fun i j p q hp hq hx => ?_, fun k q hq => Or.inl ⟨k, q.2, hq⟩⟩
  have h1 : i < 2 := (List.getElem?_eq_some_iff.mp hp).1
  have h2 : j < 2 := (List.getElem?_eq_some_iff.mp hq).1
  rcases (show i = 0 ∨ i = 1 by omega) with z | z <;> rcases (show j = 0 ∨ j = 1 by omega) with z' | z' <;> subst z <;> subst z'
  · rfl
  · cases hp; cases hq; exact absurd hx h
  · cases hp; cases hq; exact absurd hx.symm h
  · rfl
theorem va_A_not0 {a x sz : Nat} {e1 : va_E} (h1 : x ≠ a) (h2 : x < sz) : ¬ va_A [(a, e1)] sz x := by
  rintro (⟨k, e, h⟩ | h)
  · have hz : k < 1 := (List.getElem?_eq_some_iff.mp h).1
    rw [show k = 0 by omega] at h
    cases h
    exact h1 rfl
  · omega
theorem va_A_not1 {a b x sz : Nat} {e1 e2 : va_E} (h1 : x ≠ a) (h1' : x ≠ b) (h2 : x < sz) : ¬ va_A [(a, e1), (b, e2)] sz x := by
  rintro (⟨k, e, h⟩ | h)
  · have hz : k < 2 := (List.getElem?_eq_some_iff.mp h).1
    rcases (show k = 0 ∨ k = 1 by omega) with z | z <;> subst z <;> cases h
    · exact h1 rfl
    · exact h1' rfl
  · omega
/-- the elements when one is put behind the others -/
def rpush (f : Nat → Option Nat) (n v : Nat) : Nat → Option Nat := va_up f n (some v)
def rmJ2_add_2 : Room := { frames := 4, cells := 1, slots := 10, locals := 83 }
theorem kJ2_add_2_0 (l : Launch) (ω : OM) (e0 sz la v : Nat) (mo : Int32) (hv : v ≠ la) : Met l yJ2_add_2 (ws_ yJ2_add_2 cJ2_add_2 4 none) rmJ2_add_2 (cPc ω [.ref la, .ref v, .ref e0, .int (nI 0)] (fun U => lK ω e0 (va_A (lw0 la e0 mo 0) sz) U ∧ anyK v U) sz (lw0 la e0 mo 0)) (lQv ω sz (lw0 la e0 mo 0) (fun q => lw1 ω la q mo 1 (rpush (fun _ => none) 0 v))) 1 10 (va_A (lw0 la e0 mo 0) sz) := by
  refine g_entLv (C := RJ2) rfl (by decide) (Nat.le_of_ble_eq_true rfl) ?_
  intro p e s m args below meth c QQ ls H locs hF hKp hsz hHs hP hS hl hret
  obtain ⟨hK, hany⟩ := hKp
  have hl : lv_has ls 4 [(0, .ref la), (1, .ref v), (2, .ref e0), (3, .int (nI 0))] := hl
  subst hHs
  subst hsz
  refine lv_iload_n hF.1 hF.2.1 dJ2_add_2_0 rfl (lv_at hl 3 rfl) ?_
  refine lv_aload_n hF.1 hF.2.1 dJ2_add_2_1 rfl (lv_at hl 2 rfl) ?_
  refine va_tlen hF.1 hF.2.1 hK.2.2.1 hS (v := nI 0) rfl dJ2_add_2_2 ?_
  refine lv_icmp_ne (tgt := 11) hF.1 hF.2.1 dJ2_add_2_3 (by decide) (fun h => absurd rfl h) (fun _ => ?_)
  refine lv_aload_n hF.1 hF.2.1 dJ2_add_2_6 rfl (lv_at hl 0 rfl) ?_
  refine g_vLr (As := []) (rest := []) hF (kJ2_grow l ω e0 _ la mo) (lw_V q503 q505 qs7 q95 q506) 0 (by decide +kernel) rfl rfl ⟨Nat.le_of_ble_eq_true rfl, Nat.le_of_ble_eq_true rfl⟩ (fun a U g mk h => h.call) (fun U hU hW => hK.to (U := U) (by rw [hU]; exact hS) hW (fun _ z => z)) (l_recv hK.1 hP rfl) hP hS (fun _ z => z) rfl hl.1 rfl (Nat.le_of_ble_eq_true rfl) dJ2_add_2_7 ⟨Nat.le_of_ble_eq_true rfl, Nat.le_of_ble_eq_true rfl⟩ (fun q H1 locs hP hD hs1 hk hS => ?_)
  have hany1 : va_Any "java/lang/Object" s H1 v := hany.1.kept (hk v hany.lt (va_A_not0 hv hany.lt))
  refine lv_astore_n (lv' := [(2, .ref q), (0, .ref la), (1, .ref v), (3, .int (nI 0))]) hF.1 hF.2.1 dJ2_add_2_10 rfl hl (by decide) rfl (fun ls hl => ?_)
  refine lv_aload_n hF.1 hF.2.1 dJ2_add_2_11 rfl (lv_at hl 0 rfl) ?_
  refine lv_iload_n hF.1 hF.2.1 dJ2_add_2_12 rfl (lv_at hl 3 rfl) ?_
  refine lv_aload_n hF.1 hF.2.1 dJ2_add_2_13 rfl (lv_at hl 2 rfl) ?_
  refine va_astqM hF.1 hF.2.1 hK.1 hP hD hS 1 2 rfl rfl hany1 (nI_in (N := 10) (by omega) (by omega)) dJ2_add_2_14 (fun H locs hP hD hS => ?_)
  refine lv_aload_n hF.1 hF.2.1 dJ2_add_2_15 rfl (lv_at hl 1 rfl) ?_
  refine lv_iload_n hF.1 hF.2.1 dJ2_add_2_16 rfl (lv_at hl 3 rfl) ?_
  refine lv_iconst (v := nI 1) hF.1 hF.2.1 dJ2_add_2_17 (by decide) ?_
  refine n_iadd hF.1 hF.2.1 dJ2_add_2_18 ?_
  refine va_put (v := .int (nI (0 + 1))) (ty := .int) hF.1 hF.2.1 hF.2.2.2.2 in_J2 tyJ2 tyJ2_ok nmJ2 hF.2.2.2.1 hK.1 hP hD hS 0 rfl rfl 2 (by decide) (hF.2.2.2.2 _ q137) (fun _ h => h) rfl (by decide +kernel) rfl rfl (Nat.le_of_ble_eq_true rfl) dJ2_add_2_19 (fun H locs hP hD hS => ?_)
  exact hret _ _ q _ _ dJ2_add_2_22 hP hD hS
theorem kJ2_add_2_1 (l : Launch) (ω : OM) (sz la ed n v : Nat) (mo : Int32) (f : Nat → Option Nat) (hn : n < 10) (hle : la ≠ ed) : Met l yJ2_add_2 (ws_ yJ2_add_2 cJ2_add_2 4 none) rmJ2_add_2 (cPc ω [.ref la, .ref v, .ref ed, .int (nI n)] (fun U => mK ω U ∧ anyK v U) sz (lw1 ω la ed mo n f)) (lQv ω sz (lw1 ω la ed mo n f) (fun _ => lw1 ω la ed mo (n + 1) (rpush f n v))) 1 10 (va_A (lw1 ω la ed mo n f) sz) := by
  refine g_entLv (C := RJ2) rfl (by decide) (Nat.le_of_ble_eq_true rfl) ?_
  intro p e s m args below meth c QQ ls H locs hF hKp hsz hHs hP hS hl hret
  obtain ⟨hK, hany⟩ := hKp
  have hl : lv_has ls 4 [(0, .ref la), (1, .ref v), (2, .ref ed), (3, .int (nI n))] := hl
  subst hHs
  have hD : va_D (va_A (lw1 ω la ed mo n f) sz) (lw1 ω la ed mo n f) := va_D_two hle
  refine lv_iload_n hF.1 hF.2.1 dJ2_add_2_0 rfl (lv_at hl 3 rfl) ?_
  refine lv_aload_n hF.1 hF.2.1 dJ2_add_2_1 rfl (lv_at hl 2 rfl) ?_
  refine va_alen (v := nI 10) hF.1 hF.2.1 hK hP 1 2 rfl rfl rfl dJ2_add_2_2 ?_
  refine n_ne (y := 10) (tgt := 11) hF.1 hF.2.1 dJ2_add_2_3 (by decide) (by omega) (by omega) (fun _ => ?_) (fun h => absurd h (by omega))
  refine lv_aload_n hF.1 hF.2.1 dJ2_add_2_11 rfl (lv_at hl 2 rfl) ?_
  refine lv_iload_n hF.1 hF.2.1 dJ2_add_2_12 rfl (lv_at hl 3 rfl) ?_
  refine lv_aload_n hF.1 hF.2.1 dJ2_add_2_13 rfl (lv_at hl 1 rfl) ?_
  refine va_astqM hF.1 hF.2.1 hK hP hD hS 1 2 rfl rfl hany.1 (nI_in (N := 10) (by omega) (by omega)) dJ2_add_2_14 (fun H locs hP hD hS => ?_)
  rw [nI_clamp (show n < 2 ^ 31 by omega)] at hP hD
  refine lv_aload_n hF.1 hF.2.1 dJ2_add_2_15 rfl (lv_at hl 0 rfl) ?_
  refine lv_iload_n hF.1 hF.2.1 dJ2_add_2_16 rfl (lv_at hl 3 rfl) ?_
  refine lv_iconst (v := nI 1) hF.1 hF.2.1 dJ2_add_2_17 (by decide) ?_
  refine n_iadd hF.1 hF.2.1 dJ2_add_2_18 ?_
  refine va_put (v := .int (nI (n + 1))) (ty := .int) hF.1 hF.2.1 hF.2.2.2.2 in_J2 tyJ2 tyJ2_ok nmJ2 hF.2.2.2.1 hK hP hD hS 0 rfl rfl 2 (by decide) (hF.2.2.2.2 _ q137) (fun _ h => h) rfl (by decide +kernel) rfl rfl (Nat.le_of_ble_eq_true rfl) dJ2_add_2_19 (fun H locs hP hD hS => ?_)
  refine W.widen (k := 1) (n := 10) (Nat.zero_le _) (Nat.zero_le _) ?_
  exact hret _ _ 0 _ _ dJ2_add_2_22 hP hD hS
def rmJ2_add : Room := { frames := 5, cells := 1, slots := 10, locals := 106 }
theorem hdJ2_add : yJ2_add.cls = RJ2 ∧ yJ2_add.cls ≠ "java/lang/invoke/MethodHandle" ∧ yJ2_add.cls ≠ "java/lang/invoke/VarHandle" ∧ (parseMethodDescriptor yJ2_add.desc).map (fun d => d.parameters.length) = some 1 := by decide +kernel

theorem kJ2_add_0 (l : Launch) (ω : OM) (e0 sz la v : Nat) (mo : Int32) (hv : v ≠ la) : Met l yJ2_add (ws_ yJ2_add cJ2_add 2 (some .boolean)) rmJ2_add (cPc ω [.ref la, .ref v] (fun U => lK ω e0 (va_A (lw0 la e0 mo 0) sz) U ∧ anyK v U) sz (lw0 la e0 mo 0)) (lQi ω sz (lw0 la e0 mo 0) (nI 1) (fun q => lw1 ω la q (mo + nI 1) 1 (rpush (fun _ => none) 0 v))) 1 10 (va_A (lw0 la e0 mo 0) sz) := by
  refine g_entLz (C := RJ2) rfl (by decide) (Nat.le_of_ble_eq_true rfl) ?_
  intro p e s m args below meth c QQ ls H locs hF hKp hsz hHs hP hS hl hret
  obtain ⟨hK, hany⟩ := hKp
  have hl : lv_has ls 2 [(0, .ref la), (1, .ref v)] := hl
  subst hHs
  subst hsz
  have hD : va_D (va_A (lw0 la e0 mo 0) s.heap.size) (lw0 la e0 mo 0) := va_D_one
  refine lv_aload_n hF.1 hF.2.1 dJ2_add_0 rfl (lv_at hl 0 rfl) ?_
  refine lv_dup hF.1 hF.2.1 dJ2_add_1 rfl ?_
  refine va_get hF.1 hF.2.1 hF.2.2.2.2 in_J2 hF.2.2.2.1 hK.1 hP 0 rfl rfl 0 (by decide) (hF.2.2.2.2 _ q139) (fun x h => u_same (hF.2.2.2.2 _ q140) x h) rfl dJ2_add_2 ?_
  refine lv_iconst (v := nI 1) hF.1 hF.2.1 dJ2_add_5 (by decide) ?_
  refine lv_iadd hF.1 hF.2.1 dJ2_add_6 ?_
  refine va_put (v := .int (mo + nI 1)) (ty := .int) hF.1 hF.2.1 hF.2.2.2.2 in_J2 tyJ2 tyJ2_ok nmJ2 hF.2.2.2.1 hK.1 hP hD hS 0 rfl rfl 0 (by decide) (hF.2.2.2.2 _ q139) (fun x h => u_same (hF.2.2.2.2 _ q140) x h) rfl (by decide +kernel) rfl rfl (Nat.le_of_ble_eq_true rfl) dJ2_add_7 (fun H1 locs hP hD hS => ?_)
  have hP : va_P ω.1 vwCl (lw0 la e0 (mo + nI 1) 0) H1 := hP
  refine lv_aload_n hF.1 hF.2.1 dJ2_add_10 rfl (lv_at hl 0 rfl) ?_
  refine lv_aload_n hF.1 hF.2.1 dJ2_add_11 rfl (lv_at hl 1 rfl) ?_
  refine lv_aload_n hF.1 hF.2.1 dJ2_add_12 rfl (lv_at hl 0 rfl) ?_
  refine va_get hF.1 hF.2.1 hF.2.2.2.2 in_J2 hF.2.2.2.1 hK.1 hP 0 rfl rfl 1 (by decide) (hF.2.2.2.2 _ q136) (fun _ h => h) rfl dJ2_add_13 ?_
  refine lv_aload_n hF.1 hF.2.1 dJ2_add_16 rfl (lv_at hl 0 rfl) ?_
  refine va_get hF.1 hF.2.1 hF.2.2.2.2 in_J2 hF.2.2.2.1 hK.1 hP 0 rfl rfl 2 (by decide) (hF.2.2.2.2 _ q137) (fun _ h => h) rfl dJ2_add_17 ?_
  have hAB : ∀ x, va_A (lw0 la e0 (mo + nI 1) 0) H1.size x → va_A (lw0 la e0 mo 0) s.heap.size x := by
    rintro x (⟨k, e1, h⟩ | h)
    · have hz : k < 1 := (List.getElem?_eq_some_iff.mp h).1
      rw [show k = 0 by omega] at h
      cases h; exact Or.inl ⟨0, _, rfl⟩
      
    · exact Or.inr (Nat.le_trans hS.1 h)
  have hkv : H1[v]? = s.heap[v]? := hS.2.1 v hany.lt (va_A_not0 hv hany.lt)
  refine g_vLv (As := [.ref v, .ref e0, .int (nI 0)]) (rest := []) hF (kJ2_add_2_0 l ω e0 _ la v (mo + nI 1) hv) (lw_V q499 q501 qs6 q95 q502) 3 (by decide +kernel) rfl rfl ⟨Nat.le_of_ble_eq_true rfl, Nat.le_of_ble_eq_true rfl⟩ (fun a U g mk h => ⟨h.1.call, h.2.call⟩) (fun U hU hW => ⟨hK.to (U := U) (by rw [hU]; exact hS) hW hAB, hany.to (by rw [hU]; exact hkv) hW⟩) (l_recv hK.1 hP rfl) hP hS hAB rfl hl.1 rfl (Nat.le_of_ble_eq_true rfl) dJ2_add_20 ⟨Nat.le_of_ble_eq_true rfl, Nat.le_of_ble_eq_true rfl⟩ (fun q H2 locs hP hD hs2 hk hS => ?_)
  refine lv_iconst (v := nI 1) hF.1 hF.2.1 dJ2_add_23 (by decide) ?_
  exact hret _ _ _ q _ _ dJ2_add_24 rfl (Or.inr rfl) hP (hD.weaken (fun _ _ _ h => hAB _ h)) hS
theorem kJ2_add_1 (l : Launch) (ω : OM) (sz la ed n v : Nat) (mo : Int32) (f : Nat → Option Nat) (hn : n < 10) (hle : la ≠ ed) (hv : v ≠ la) (hv2 : v ≠ ed) : Met l yJ2_add (ws_ yJ2_add cJ2_add 2 (some .boolean)) rmJ2_add (cPc ω [.ref la, .ref v] (fun U => mK ω U ∧ anyK v U) sz (lw1 ω la ed mo n f)) (lQi ω sz (lw1 ω la ed mo n f) (nI 1) (fun _ => lw1 ω la ed (mo + nI 1) (n + 1) (rpush f n v))) 1 10 (va_A (lw1 ω la ed mo n f) sz) := by
  refine g_entLz (C := RJ2) rfl (by decide) (Nat.le_of_ble_eq_true rfl) ?_
  intro p e s m args below meth c QQ ls H locs hF hKp hsz hHs hP hS hl hret
  obtain ⟨hK, hany⟩ := hKp
  have hl : lv_has ls 2 [(0, .ref la), (1, .ref v)] := hl
  subst hHs
  subst hsz
  have hD : va_D (va_A (lw1 ω la ed mo n f) s.heap.size) (lw1 ω la ed mo n f) := (va_D_two hle)
  refine lv_aload_n hF.1 hF.2.1 dJ2_add_0 rfl (lv_at hl 0 rfl) ?_
  refine lv_dup hF.1 hF.2.1 dJ2_add_1 rfl ?_
  refine va_get hF.1 hF.2.1 hF.2.2.2.2 in_J2 hF.2.2.2.1 hK hP 0 rfl rfl 0 (by decide) (hF.2.2.2.2 _ q139) (fun x h => u_same (hF.2.2.2.2 _ q140) x h) rfl dJ2_add_2 ?_
  refine lv_iconst (v := nI 1) hF.1 hF.2.1 dJ2_add_5 (by decide) ?_
  refine lv_iadd hF.1 hF.2.1 dJ2_add_6 ?_
  refine va_put (v := .int (mo + nI 1)) (ty := .int) hF.1 hF.2.1 hF.2.2.2.2 in_J2 tyJ2 tyJ2_ok nmJ2 hF.2.2.2.1 hK hP hD hS 0 rfl rfl 0 (by decide) (hF.2.2.2.2 _ q139) (fun x h => u_same (hF.2.2.2.2 _ q140) x h) rfl (by decide +kernel) rfl rfl (Nat.le_of_ble_eq_true rfl) dJ2_add_7 (fun H1 locs hP hD hS => ?_)
  have hP : va_P ω.1 vwCl (lw1 ω la ed (mo + nI 1) n f) H1 := hP
  refine lv_aload_n hF.1 hF.2.1 dJ2_add_10 rfl (lv_at hl 0 rfl) ?_
  refine lv_aload_n hF.1 hF.2.1 dJ2_add_11 rfl (lv_at hl 1 rfl) ?_
  refine lv_aload_n hF.1 hF.2.1 dJ2_add_12 rfl (lv_at hl 0 rfl) ?_
  refine va_get hF.1 hF.2.1 hF.2.2.2.2 in_J2 hF.2.2.2.1 hK hP 0 rfl rfl 1 (by decide) (hF.2.2.2.2 _ q136) (fun _ h => h) rfl dJ2_add_13 ?_
  refine lv_aload_n hF.1 hF.2.1 dJ2_add_16 rfl (lv_at hl 0 rfl) ?_
  refine va_get hF.1 hF.2.1 hF.2.2.2.2 in_J2 hF.2.2.2.1 hK hP 0 rfl rfl 2 (by decide) (hF.2.2.2.2 _ q137) (fun _ h => h) rfl dJ2_add_17 ?_
  have hAB : ∀ x, va_A (lw1 ω la ed (mo + nI 1) n f) H1.size x → va_A (lw1 ω la ed mo n f) s.heap.size x := by
    rintro x (⟨k, e1, h⟩ | h)
    · have hz : k < 2 := (List.getElem?_eq_some_iff.mp h).1
      rcases (show k = 0 ∨ k = 1 by omega) with z | z <;> subst z
      · cases h; exact Or.inl ⟨0, _, rfl⟩
      · cases h; exact Or.inl ⟨1, _, rfl⟩
    · exact Or.inr (Nat.le_trans hS.1 h)
  have hkv : H1[v]? = s.heap[v]? := hS.2.1 v hany.lt (va_A_not1 hv hv2 hany.lt)
  refine g_vLv (As := [.ref v, .ref ed, .int (nI n)]) (rest := []) hF (kJ2_add_2_1 l ω _ la ed n v (mo + nI 1) f hn hle) (lw_V q499 q501 qs6 q95 q502) 3 (by decide +kernel) rfl rfl ⟨Nat.le_of_ble_eq_true rfl, Nat.le_of_ble_eq_true rfl⟩ (fun a U g mk h => ⟨va_K.moved (u := U) (U := U.calling g mk a) (Vm.Alike.refl U.vm) h.1, h.2.call⟩) (fun U hU hW => ⟨hK.warm hW, hany.to (by rw [hU]; exact hkv) hW⟩) (l_recv hK hP rfl) hP hS hAB rfl hl.1 rfl (Nat.le_of_ble_eq_true rfl) dJ2_add_20 ⟨Nat.le_of_ble_eq_true rfl, Nat.le_of_ble_eq_true rfl⟩ (fun q H2 locs hP hD hs2 hk hS => ?_)
  refine lv_iconst (v := nI 1) hF.1 hF.2.1 dJ2_add_23 (by decide) ?_
  exact hret _ _ _ q _ _ dJ2_add_24 rfl (Or.inr rfl) hP (hD.weaken (fun _ _ _ h => hAB _ h)) hS
