/-! STREETS are made: constructors, made -/
set_option maxRecDepth 100000
def rmX5_init : Room := { frames := 1, cells := 0, slots := 0, locals := 24 }
theorem kX5_init (l : Launch) (ω : OM) (sz q : Nat) (ee : va_E) : Met l yX5_init (ws_ yX5_init cX5_init 1 none) rmX5_init (cPc ω [.ref q] (fun U => mK ω U ∧ xN U) sz [(q, ee)]) (cQc ω sz [(q, ee)] (fun _ => [(q, ee)])) 0 0 (va_A [(q, ee)] sz) := by
  refine g_entC (C := RX5) rfl (by decide) rfl (Nat.le_of_ble_eq_true rfl) ?_
  intro p e s m args below meth c QQ ls H locs hF hin hKp hsz hP hS hl hret
  have hl : lv_has ls 1 [(0, .ref q)] := hl
  refine lv_aload_n hF.1 hF.2.1 dX5_init_0 rfl (lv_at hl 0 rfl) ?_
  refine W.objInit hF.1 hF.2.1 hF.2.2.2.1 (hF.2.2.2.2 _ q439) (hF.2.2.2.2 _ q120) (hF.2.2.2.2 _ q121) rfl (hl.1.trans hF.2.2.1.symm) rfl dX5_init_1 (Nat.le_of_ble_eq_true rfl) (Nat.le_of_ble_eq_true rfl) ?_
  exact hret _ _ (fun _ => 0) _ _ dX5_init_4 hP va_D_one hS
def rmX6_init : Room := { frames := 2, cells := 0, slots := 0, locals := 44 }
theorem kX6_init (l : Launch) (ω : OM) (sz q : Nat) (ee : va_E) : Met l yX6_init (ws_ yX6_init cX6_init 1 none) rmX6_init (cPc ω [.ref q] (fun U => mK ω U ∧ xN U) sz [(q, ee)]) (cQc ω sz [(q, ee)] (fun _ => [(q, ee)])) 0 0 (va_A [(q, ee)] sz) := by
  refine g_entC (C := RX6) rfl (by decide) rfl (Nat.le_of_ble_eq_true rfl) ?_
  intro p e s m args below meth c QQ ls H locs hF hin hKp hsz hP hS hl hret
  have hl : lv_has ls 1 [(0, .ref q)] := hl
  have hA : ∀ x, s.heap.size ≤ x → va_A [(q, ee)] sz x := fun x h => Or.inr (by rw [hsz] at h; exact h)
  refine lv_aload_n hF.1 hF.2.1 dX6_init_0 rfl (lv_at hl 0 rfl) ?_
  refine g_iNC (As := []) (rest := []) (wr := []) hF (kX5_init l ω _ q ee) (lw_meth q438) (xn_q436 hKp.2) q102 q437 0 (by decide +kernel) rfl rfl ⟨Nat.le_of_ble_eq_true rfl, Nat.le_of_ble_eq_true rfl⟩ (fun a U g mk h => ⟨va_K.moved (u := U) (U := U.calling g mk a) (Vm.Alike.refl U.vm) h.1, h.2.call⟩) (fun U hU hW => ⟨hKp.1.warm hW, hKp.2.warm hW⟩) hP va_D_one hS hA [0] [] rfl rfl rfl rfl (by decide) rfl hl.1 rfl (Nat.le_of_ble_eq_true rfl) dX6_init_1 ⟨Nat.le_of_ble_eq_true rfl, Nat.le_of_ble_eq_true rfl⟩ (fun w H locs hP hD hS => ?_)
  exact hret _ _ (fun _ => 0) _ _ dX6_init_4 hP hD hS
def rmX7_init : Room := { frames := 2, cells := 0, slots := 0, locals := 44 }
theorem kX7_init (l : Launch) (ω : OM) (sz q : Nat) (ee : va_E) : Met l yX7_init (ws_ yX7_init cX7_init 1 none) rmX7_init (cPc ω [.ref q] (fun U => mK ω U ∧ xN U) sz [(q, ee)]) (cQc ω sz [(q, ee)] (fun _ => [(q, ee)])) 0 0 (va_A [(q, ee)] sz) := by
  refine g_entC (C := RX7) rfl (by decide) rfl (Nat.le_of_ble_eq_true rfl) ?_
  intro p e s m args below meth c QQ ls H locs hF hin hKp hsz hP hS hl hret
  have hl : lv_has ls 1 [(0, .ref q)] := hl
  have hA : ∀ x, s.heap.size ≤ x → va_A [(q, ee)] sz x := fun x h => Or.inr (by rw [hsz] at h; exact h)
  refine lv_aload_n hF.1 hF.2.1 dX7_init_0 rfl (lv_at hl 0 rfl) ?_
  refine g_iNC (As := []) (rest := []) (wr := []) hF (kX5_init l ω _ q ee) (lw_meth q438) (xn_q463 hKp.2) q102 q437 0 (by decide +kernel) rfl rfl ⟨Nat.le_of_ble_eq_true rfl, Nat.le_of_ble_eq_true rfl⟩ (fun a U g mk h => ⟨va_K.moved (u := U) (U := U.calling g mk a) (Vm.Alike.refl U.vm) h.1, h.2.call⟩) (fun U hU hW => ⟨hKp.1.warm hW, hKp.2.warm hW⟩) hP va_D_one hS hA [0] [] rfl rfl rfl rfl (by decide) rfl hl.1 rfl (Nat.le_of_ble_eq_true rfl) dX7_init_1 ⟨Nat.le_of_ble_eq_true rfl, Nat.le_of_ble_eq_true rfl⟩ (fun w H locs hP hD hS => ?_)
  exact hret _ _ (fun _ => 0) _ _ dX7_init_4 hP hD hS
def rmX8_init : Room := { frames := 2, cells := 0, slots := 0, locals := 44 }
theorem kX8_init (l : Launch) (ω : OM) (sz q : Nat) (ee : va_E) : Met l yX8_init (ws_ yX8_init cX8_init 1 none) rmX8_init (cPc ω [.ref q] (fun U => mK ω U ∧ xN U) sz [(q, ee)]) (cQc ω sz [(q, ee)] (fun _ => [(q, ee)])) 0 0 (va_A [(q, ee)] sz) := by
  refine g_entC (C := RX8) rfl (by decide) rfl (Nat.le_of_ble_eq_true rfl) ?_
  intro p e s m args below meth c QQ ls H locs hF hin hKp hsz hP hS hl hret
  have hl : lv_has ls 1 [(0, .ref q)] := hl
  have hA : ∀ x, s.heap.size ≤ x → va_A [(q, ee)] sz x := fun x h => Or.inr (by rw [hsz] at h; exact h)
  refine lv_aload_n hF.1 hF.2.1 dX8_init_0 rfl (lv_at hl 0 rfl) ?_
  refine g_iNC (As := []) (rest := []) (wr := []) hF (kX5_init l ω _ q ee) (lw_meth q438) (xn_q473 hKp.2) q102 q437 0 (by decide +kernel) rfl rfl ⟨Nat.le_of_ble_eq_true rfl, Nat.le_of_ble_eq_true rfl⟩ (fun a U g mk h => ⟨va_K.moved (u := U) (U := U.calling g mk a) (Vm.Alike.refl U.vm) h.1, h.2.call⟩) (fun U hU hW => ⟨hKp.1.warm hW, hKp.2.warm hW⟩) hP va_D_one hS hA [0] [] rfl rfl rfl rfl (by decide) rfl hl.1 rfl (Nat.le_of_ble_eq_true rfl) dX8_init_1 ⟨Nat.le_of_ble_eq_true rfl, Nat.le_of_ble_eq_true rfl⟩ (fun w H locs hP hD hS => ?_)
  exact hret _ _ (fun _ => 0) _ _ dX8_init_4 hP hD hS
def rmX9_init : Room := { frames := 3, cells := 0, slots := 0, locals := 64 }
theorem kX9_init (l : Launch) (ω : OM) (sz q : Nat) (ee : va_E) : Met l yX9_init (ws_ yX9_init cX9_init 1 none) rmX9_init (cPc ω [.ref q] (fun U => mK ω U ∧ xN U) sz [(q, ee)]) (cQc ω sz [(q, ee)] (fun _ => [(q, ee)])) 0 0 (va_A [(q, ee)] sz) := by
  refine g_entC (C := RX9) rfl (by decide) rfl (Nat.le_of_ble_eq_true rfl) ?_
  intro p e s m args below meth c QQ ls H locs hF hin hKp hsz hP hS hl hret
  have hl : lv_has ls 1 [(0, .ref q)] := hl
  have hA : ∀ x, s.heap.size ≤ x → va_A [(q, ee)] sz x := fun x h => Or.inr (by rw [hsz] at h; exact h)
  refine lv_aload_n hF.1 hF.2.1 dX9_init_0 rfl (lv_at hl 0 rfl) ?_
  refine g_iNC (As := []) (rest := []) (wr := []) hF (kX6_init l ω _ q ee) (lw_meth q435) (xn_q483 hKp.2) q103 q434 0 (by decide +kernel) rfl rfl ⟨Nat.le_of_ble_eq_true rfl, Nat.le_of_ble_eq_true rfl⟩ (fun a U g mk h => ⟨va_K.moved (u := U) (U := U.calling g mk a) (Vm.Alike.refl U.vm) h.1, h.2.call⟩) (fun U hU hW => ⟨hKp.1.warm hW, hKp.2.warm hW⟩) hP va_D_one hS hA [0] [] rfl rfl rfl rfl (by decide) rfl hl.1 rfl (Nat.le_of_ble_eq_true rfl) dX9_init_1 ⟨Nat.le_of_ble_eq_true rfl, Nat.le_of_ble_eq_true rfl⟩ (fun w H locs hP hD hS => ?_)
  exact hret _ _ (fun _ => 0) _ _ dX9_init_4 hP hD hS
/-- a street beside the reader's world, which is being made -/
theorem yH.cuNew {ω : OM} {σ : RA} {u : XS} {pl pp q k : Nat} {tf : Nat → Int32} {rt : TW} {b1 b2 b3 b4 b5 : Nat} {so : SO} {H : Heap} (hk5 : k < 5) (h : yH ω σ u (pl, pp, tf, rt, (false, b1, b2, b3, b4, b5), so) H) (hq : va_P ω.1 vwCl [(q, .inr (5 + k, [.int 0, .int 0, .int 0]))] H) (hA : ω.2.2.1 q) (hf : ∀ o k, yI u.2.2.2.2.2.2 (pl, pp, tf, rt, (false, b1, b2, b3, b4, b5), so) o k = true → yad ω σ u.2.2.2.2.2.2 (pl, pp, tf, rt, (false, b1, b2, b3, b4, b5), so) o k ≠ q) : yH ω σ u (pl, pp, tf, rt, (true, q, k, 0, 0, 0), so) H := by
  have key : ∀ o j, yI u.2.2.2.2.2.2 (pl, pp, tf, rt, (true, q, k, 0, 0, 0), so) o j = true → (o = 5 ∧ j = 50) ∨ (yI u.2.2.2.2.2.2 (pl, pp, tf, rt, (false, b1, b2, b3, b4, b5), so) o j = true ∧ yad ω σ u.2.2.2.2.2.2 (pl, pp, tf, rt, (true, q, k, 0, 0, 0), so) o j = yad ω σ u.2.2.2.2.2.2 (pl, pp, tf, rt, (false, b1, b2, b3, b4, b5), so) o j ∧ yE ω σ u (pl, pp, tf, rt, (true, q, k, 0, 0, 0), so) o j = yE ω σ u (pl, pp, tf, rt, (false, b1, b2, b3, b4, b5), so) o j) := by
    intro o j hi
    by_cases hx : o = 5 ∧ j = 50
    · exact Or.inl hx
    · refine Or.inr ?_
      match o, hx, hi with
      | 0, _, hi => exact ⟨hi, rfl, rfl⟩
      | 1, _, hi => exact ⟨hi, rfl, rfl⟩
      | 2, _, hi => exact ⟨hi, rfl, rfl⟩
      | 3, _, hi => exact ⟨hi, rfl, rfl⟩
      | 4, _, hi => exact ⟨hi, rfl, rfl⟩
      | 5, hx, hi =>
        have hk : ¬ j = 50 := fun z => hx ⟨rfl, z⟩
        refine ⟨?_, ?_, ?_⟩
        · simpa [yI, hk] using hi
        · show (if j = 50 then _ else _) = (if j = 50 then _ else _)
          rw [if_neg hk, if_neg hk]
        · show (if j = 50 then _ else _) = (if j = 50 then _ else _)
          rw [if_neg hk, if_neg hk]
      | j + 6, _, hi => exact ⟨hi, rfl, rfl⟩
  refine ⟨fun o k hi => ?_, ⟨fun o k o' k' hi hi' ha => ?_, fun o k hi => ?_⟩, h.2.2.1, h.2.2.2.1, hk5⟩
  · rcases key o k hi with ⟨rfl, rfl⟩ | ⟨h1, h2, h3⟩
    · exact hq 0 _ rfl
    · rw [h2, h3]; exact h.1 o k h1
  · rcases key o k hi with ⟨rfl, rfl⟩ | ⟨h1, h2, h3⟩ <;> rcases key o' k' hi' with ⟨rfl, rfl⟩ | ⟨h1', h2', h3'⟩
    · exact ⟨rfl, rfl⟩
    · rw [h2'] at ha; exact absurd ha.symm (hf o' k' h1')
    · rw [h2] at ha; exact absurd ha (hf o k h1)
    · rw [h2, h2'] at ha; exact h.2.1.1 o k o' k' h1 h1' ha
  · rcases key o k hi with ⟨rfl, rfl⟩ | ⟨h1, h2, h3⟩
    · exact hA
    · rw [h2]; exact h.2.1.2 o k h1
section ME
variable {l : Launch} {y : MethodName} {cc : ByteArray} {nL : Nat} {rm : Room} {av : List Value} {C rt : String} {S : Type} {Kp : State → Prop} {Hp : Heap → Prop} {Hr : S → Nat → Heap → Prop} {A : Nat → Prop} {mc ms : Nat}
/-- entry, a world, an answer that is a cell -/
theorem g_entWr (hC : y.cls = C) (hy : plainName C = true) (hlen : (lg_sl av).length ≤ nL)
    (body : ∀ (p : Program) (e : Env) (s : State) (m : MethodId) (args : Array Value) (below : List Frame) (meth : Method) (c : Code) (QQ : State → Prop) (ls : Array Slot) (H : Heap) (locs : List Loc), CallFix p m c cc nL s args lw_all C → Kp s → Hp H → va_S A s.heap H locs → lv_has ls nL (lv_args 0 av) →
      (∀ (pc : Nat) (ls : Array Slot) (u : S) (q : Nat) (H : Heap) (locs : List Loc), decode cc pc = .ok (.areturn, 1) → Hr u q H → va_S A s.heap H locs → W p l e rm s m args below meth c H locs mc ms QQ (F0 m pc ls [.ref q])) →
      W p l e rm s m args below meth c H locs 0 0 QQ (F0 m 0 ls [])) : Met l y (ws_ y cc nL (some (.object rt))) rm (va_Pc av (fun U => Kp U ∧ Hp U.heap)) (va_Qr (fun (_ : S) => True) (fun u q t => Hr u q t.heap) A) mc ms A := by
  subst hC
  refine Met.ofW (cc := cc) (maxL := nL) (ret := some (.object rt)) hy rfl ?_
  intro p e s m args below meth c s₁ B hml hv
  obtain ⟨rfl, hk, hh⟩ := hv
  have hts := atoms_spec (ws := ws_ y cc nL (some (.object rt))) B.pre
  have hts : ∀ w ∈ lw_all, w.before _ s = true := fun w h => hts w (List.mem_cons_of_mem _ h)
  rw [lg_entry_eq]
  exact body p e s m _ below meth c _ _ _ _ ⟨B.exec, B.bytes, hml, findClass_of_methodNamed B.named, hts⟩ hk hh va_S.rf (lv_entry av hlen) (fun pc ls u q H locs hd hH hS => W.aret B.exec B.bytes B.returns (Or.inl ⟨_, rfl⟩) (Or.inr ⟨_, rfl⟩) (fun t ht _ => ⟨⟨u, q, rfl, trivial, by show Hr u q t.heap; rw [ht]; exact hH⟩, hS.F ht⟩) hS.2.2 hd (hlocks := B.notSynchronized))
end ME
def rmX0_made : Room := { frames := 4, cells := 1, slots := 3, locals := 84 }
theorem hdX0_made : yX0_made.cls = RX0 ∧ yX0_made.cls ≠ "java/lang/invoke/MethodHandle" ∧ yX0_made.cls ≠ "java/lang/invoke/VarHandle" ∧ (parseMethodDescriptor yX0_made.desc).map (fun d => d.parameters.length) = some 1 := by decide +kernel
theorem kX0_made (l : Launch) (ω : OM) (σ : RA) (e0 : Nat) (v1 v2 : Value) (u : XS) (pl pp : Nat) (tf : Nat → Int32) (rt : TW) (b1 b2 b3 b4 b5 : Nat) (so : SO) (k : Nat) (hk : k < 5) : Met l yX0_made (ws_ yX0_made cX0_made 1 (some (.object "HurtStreets$Street"))) rmX0_made (va_Pc [.int (nI k)] (fun U => yK ω e0 v1 v2 U ∧ yH ω σ u (pl, pp, tf, rt, (false, b1, b2, b3, b4, b5), so) U.heap)) (va_Qr (fun (_ : Unit) => True) (fun _ q t => yH ω σ u (pl, pp, tf, rt, (true, q, k, 0, 0, 0), so) t.heap) ω.2.2.1) 1 3 ω.2.2.1 := by
  refine g_entWr (C := RX0) (Hp := yH ω σ u (pl, pp, tf, rt, (false, b1, b2, b3, b4, b5), so)) (Hr := fun (_ : Unit) q H => yH ω σ u (pl, pp, tf, rt, (true, q, k, 0, 0, 0), so) H) rfl (by decide) (Nat.le_of_ble_eq_true rfl) ?_
  intro p e s m args below meth c QQ ls H locs hF hK hH hS hl hret
  have hl : lv_has ls 1 [(0, .int (nI k))] := hl
  have hq : ω.2.2.1 H.size := hK.2.2.2.2.2 _ hS.1
  have hA1 : ∀ (ee : va_E) (H1 : Heap), s.heap.size ≤ H1.size → ∀ x, va_A [(H.size, ee)] H1.size x → ω.2.2.1 x := by
    intro ee H1 hs x hx
    rcases hx with ⟨j, e1, h⟩ | h
    · have hz : j < 1 := (List.getElem?_eq_some_iff.mp h).1
      rw [show j = 0 by omega] at h
      cases h
      exact hq
    · exact hK.2.2.2.2.2 x (Nat.le_trans hs h)
  refine lv_iload_n hF.1 hF.2.1 dX0_made_0 rfl (lv_at hl 0 rfl) ?_
  rcases (show k = 1 ∨ k = 2 ∨ k = 3 ∨ k = 4 ∨ k = 0 by omega) with h | h | h | h | h <;> subst h
  · refine lv_tableIn (off := 31) (tgt := 32) hF.1 hF.2.1 dX0_made_1 (by decide) (by decide) (by decide) (by decide) ?_
    refine g_new (ci := 6) (fs := [.int 0, .int 0, .int 0]) hF in_X6 tyX6 tyX6_ok q431 q432 q103 hK.1.1 hS rfl (by decide) (Nat.le_of_ble_eq_true rfl) (Nat.le_of_ble_eq_true rfl) dX0_made_32 (fun H1 z1 o1 hP hS => ?_)
    refine lv_dup hF.1 hF.2.1 dX0_made_35 rfl ?_
    refine g_iNCf (As := []) (rest := [.ref H.size]) (Kp := fun U => mK ω U ∧ xN U) (ee := .inr (6, [.int 0, .int 0, .int 0])) (Wf := fun _ => [(H.size, .inr (6, [.int 0, .int 0, .int 0]))]) hF (kX6_init l ω _ H.size _) (lw_meth q435) (xn_q433 hK.1.2) q103 q434 0 (by decide +kernel) rfl rfl ⟨Nat.le_of_ble_eq_true rfl, Nat.le_of_ble_eq_true rfl⟩ (fun a U g mk h => ⟨va_K.moved (u := U) (U := U.calling g mk a) (Vm.Alike.refl U.vm) h.1, h.2.call⟩) (fun U hU hW => ⟨(hK.1.warm hW).1, hK.1.2.warm hW⟩) hP hS hq hK.2.2.2.2.2 rfl hl.1 rfl (Nat.le_of_ble_eq_true rfl) dX0_made_36 ⟨Nat.le_of_ble_eq_true rfl, Nat.le_of_ble_eq_true rfl⟩ (fun w H2 locs hP2 _ z2 o2 hS => ?_)
    refine hret _ _ () H.size _ _ dX0_made_39 ?_ hS
    have hH2 : yH ω σ u (pl, pp, tf, rt, (false, b1, b2, b3, b4, b5), so) H2 := hH.kept (fun x hx => (o2 x (by omega) (by omega)).trans (o1 x hx))
    exact hH2.cuNew (by omega) hP2 hq (fun o k hi => Nat.ne_of_lt (hH.1.lt hi))
  · refine lv_tableIn (off := 39) (tgt := 40) hF.1 hF.2.1 dX0_made_1 (by decide) (by decide) (by decide) (by decide) ?_
    refine g_new (ci := 7) (fs := [.int 0, .int 0, .int 0]) hF in_X7 tyX7 tyX7_ok q458 q459 q104 hK.1.1 hS rfl (by decide) (Nat.le_of_ble_eq_true rfl) (Nat.le_of_ble_eq_true rfl) dX0_made_40 (fun H1 z1 o1 hP hS => ?_)
    refine lv_dup hF.1 hF.2.1 dX0_made_43 rfl ?_
    refine g_iNCf (As := []) (rest := [.ref H.size]) (Kp := fun U => mK ω U ∧ xN U) (ee := .inr (7, [.int 0, .int 0, .int 0])) (Wf := fun _ => [(H.size, .inr (7, [.int 0, .int 0, .int 0]))]) hF (kX7_init l ω _ H.size _) (lw_meth q462) (xn_q460 hK.1.2) q104 q461 0 (by decide +kernel) rfl rfl ⟨Nat.le_of_ble_eq_true rfl, Nat.le_of_ble_eq_true rfl⟩ (fun a U g mk h => ⟨va_K.moved (u := U) (U := U.calling g mk a) (Vm.Alike.refl U.vm) h.1, h.2.call⟩) (fun U hU hW => ⟨(hK.1.warm hW).1, hK.1.2.warm hW⟩) hP hS hq hK.2.2.2.2.2 rfl hl.1 rfl (Nat.le_of_ble_eq_true rfl) dX0_made_44 ⟨Nat.le_of_ble_eq_true rfl, Nat.le_of_ble_eq_true rfl⟩ (fun w H2 locs hP2 _ z2 o2 hS => ?_)
    refine hret _ _ () H.size _ _ dX0_made_47 ?_ hS
    have hH2 : yH ω σ u (pl, pp, tf, rt, (false, b1, b2, b3, b4, b5), so) H2 := hH.kept (fun x hx => (o2 x (by omega) (by omega)).trans (o1 x hx))
    exact hH2.cuNew (by omega) hP2 hq (fun o k hi => Nat.ne_of_lt (hH.1.lt hi))
  · refine lv_tableIn (off := 47) (tgt := 48) hF.1 hF.2.1 dX0_made_1 (by decide) (by decide) (by decide) (by decide) ?_
    refine g_new (ci := 8) (fs := [.int 0, .int 0, .int 0]) hF in_X8 tyX8 tyX8_ok q468 q469 q105 hK.1.1 hS rfl (by decide) (Nat.le_of_ble_eq_true rfl) (Nat.le_of_ble_eq_true rfl) dX0_made_48 (fun H1 z1 o1 hP hS => ?_)
    refine lv_dup hF.1 hF.2.1 dX0_made_51 rfl ?_
    refine g_iNCf (As := []) (rest := [.ref H.size]) (Kp := fun U => mK ω U ∧ xN U) (ee := .inr (8, [.int 0, .int 0, .int 0])) (Wf := fun _ => [(H.size, .inr (8, [.int 0, .int 0, .int 0]))]) hF (kX8_init l ω _ H.size _) (lw_meth q472) (xn_q470 hK.1.2) q105 q471 0 (by decide +kernel) rfl rfl ⟨Nat.le_of_ble_eq_true rfl, Nat.le_of_ble_eq_true rfl⟩ (fun a U g mk h => ⟨va_K.moved (u := U) (U := U.calling g mk a) (Vm.Alike.refl U.vm) h.1, h.2.call⟩) (fun U hU hW => ⟨(hK.1.warm hW).1, hK.1.2.warm hW⟩) hP hS hq hK.2.2.2.2.2 rfl hl.1 rfl (Nat.le_of_ble_eq_true rfl) dX0_made_52 ⟨Nat.le_of_ble_eq_true rfl, Nat.le_of_ble_eq_true rfl⟩ (fun w H2 locs hP2 _ z2 o2 hS => ?_)
    refine hret _ _ () H.size _ _ dX0_made_55 ?_ hS
    have hH2 : yH ω σ u (pl, pp, tf, rt, (false, b1, b2, b3, b4, b5), so) H2 := hH.kept (fun x hx => (o2 x (by omega) (by omega)).trans (o1 x hx))
    exact hH2.cuNew (by omega) hP2 hq (fun o k hi => Nat.ne_of_lt (hH.1.lt hi))
  · refine lv_tableIn (off := 55) (tgt := 56) hF.1 hF.2.1 dX0_made_1 (by decide) (by decide) (by decide) (by decide) ?_
    refine g_new (ci := 9) (fs := [.int 0, .int 0, .int 0]) hF in_X9 tyX9 tyX9_ok q478 q479 q106 hK.1.1 hS rfl (by decide) (Nat.le_of_ble_eq_true rfl) (Nat.le_of_ble_eq_true rfl) dX0_made_56 (fun H1 z1 o1 hP hS => ?_)
    refine lv_dup hF.1 hF.2.1 dX0_made_59 rfl ?_
    refine g_iNCf (As := []) (rest := [.ref H.size]) (Kp := fun U => mK ω U ∧ xN U) (ee := .inr (9, [.int 0, .int 0, .int 0])) (Wf := fun _ => [(H.size, .inr (9, [.int 0, .int 0, .int 0]))]) hF (kX9_init l ω _ H.size _) (lw_meth q482) (xn_q480 hK.1.2) q106 q481 0 (by decide +kernel) rfl rfl ⟨Nat.le_of_ble_eq_true rfl, Nat.le_of_ble_eq_true rfl⟩ (fun a U g mk h => ⟨va_K.moved (u := U) (U := U.calling g mk a) (Vm.Alike.refl U.vm) h.1, h.2.call⟩) (fun U hU hW => ⟨(hK.1.warm hW).1, hK.1.2.warm hW⟩) hP hS hq hK.2.2.2.2.2 rfl hl.1 rfl (Nat.le_of_ble_eq_true rfl) dX0_made_60 ⟨Nat.le_of_ble_eq_true rfl, Nat.le_of_ble_eq_true rfl⟩ (fun w H2 locs hP2 _ z2 o2 hS => ?_)
    refine hret _ _ () H.size _ _ dX0_made_63 ?_ hS
    have hH2 : yH ω σ u (pl, pp, tf, rt, (false, b1, b2, b3, b4, b5), so) H2 := hH.kept (fun x hx => (o2 x (by omega) (by omega)).trans (o1 x hx))
    exact hH2.cuNew (by omega) hP2 hq (fun o k hi => Nat.ne_of_lt (hH.1.lt hi))
  · refine lv_tableOut (tgt := 64) hF.1 hF.2.1 dX0_made_1 (Or.inl (by decide)) (by decide) ?_
    refine g_new (ci := 5) (fs := [.int 0, .int 0, .int 0]) hF in_X5 tyX5 tyX5_ok q488 q489 q102 hK.1.1 hS rfl (by decide) (Nat.le_of_ble_eq_true rfl) (Nat.le_of_ble_eq_true rfl) dX0_made_64 (fun H1 z1 o1 hP hS => ?_)
    refine lv_dup hF.1 hF.2.1 dX0_made_67 rfl ?_
    refine g_iNCf (As := []) (rest := [.ref H.size]) (Kp := fun U => mK ω U ∧ xN U) (ee := .inr (5, [.int 0, .int 0, .int 0])) (Wf := fun _ => [(H.size, .inr (5, [.int 0, .int 0, .int 0]))]) hF (kX5_init l ω _ H.size _) (lw_meth q438) (xn_q490 hK.1.2) q102 q437 0 (by decide +kernel) rfl rfl ⟨Nat.le_of_ble_eq_true rfl, Nat.le_of_ble_eq_true rfl⟩ (fun a U g mk h => ⟨va_K.moved (u := U) (U := U.calling g mk a) (Vm.Alike.refl U.vm) h.1, h.2.call⟩) (fun U hU hW => ⟨(hK.1.warm hW).1, hK.1.2.warm hW⟩) hP hS hq hK.2.2.2.2.2 rfl hl.1 rfl (Nat.le_of_ble_eq_true rfl) dX0_made_68 ⟨Nat.le_of_ble_eq_true rfl, Nat.le_of_ble_eq_true rfl⟩ (fun w H2 locs hP2 _ z2 o2 hS => ?_)
    refine hret _ _ () H.size _ _ dX0_made_71 ?_ hS
    have hH2 : yH ω σ u (pl, pp, tf, rt, (false, b1, b2, b3, b4, b5), so) H2 := hH.kept (fun x hx => (o2 x (by omega) (by omega)).trans (o1 x hx))
    exact hH2.cuNew (by omega) hP2 hq (fun o k hi => Nat.ne_of_lt (hH.1.lt hi))
