/-! THE LIST: clear -/
set_option maxRecDepth 100000
def clr (f : Nat → Option Nat) (n : Nat) : Nat → Option Nat := fun i => if i < n then none else f i
theorem clr_step (f : Nat → Option Nat) (n : Nat) : va_up (clr f n) n none = clr f (n + 1) := by
  funext i
  unfold va_up clr
  by_cases h : i = n
  · subst h; simp
  · by_cases h2 : i < n
    · rw [if_neg h, if_pos h2, if_pos (by omega)]
    · rw [if_neg h, if_neg h2, if_neg (by omega)]
theorem clr_0 (f : Nat → Option Nat) : clr f 0 = f := by
  funext i
  unfold clr
  rw [if_neg (by omega)]
def rmJ2_clear : Room := { frames := 1, cells := 0, slots := 0, locals := 30 }
theorem hdJ2_clear : yJ2_clear.cls = RJ2 ∧ yJ2_clear.cls ≠ "java/lang/invoke/MethodHandle" ∧ yJ2_clear.cls ≠ "java/lang/invoke/VarHandle" ∧ (parseMethodDescriptor yJ2_clear.desc).map (fun d => d.parameters.length) = some 0 := by decide +kernel
theorem kJ2_clear_0 (l : Launch) (ω : OM) (e0 sz la : Nat) (mo : Int32) : Met l yJ2_clear (ws_ yJ2_clear cJ2_clear 4 none) rmJ2_clear (cPc ω [.ref la] (mK ω) sz (lw0 la e0 mo 0)) (lQv ω sz (lw0 la e0 mo 0) (fun _ => lw0 la e0 (mo + nI 1) 0)) 0 0 (va_A (lw0 la e0 mo 0) sz) := by
  refine g_entLv (C := RJ2) rfl (by decide) (Nat.le_of_ble_eq_true rfl) ?_
  intro p e s m args below meth c QQ ls H locs hF hK hsz hHs hP hS hl hret
  have hl : lv_has ls 4 [(0, .ref la)] := hl
  have hD : va_D (va_A (lw0 la e0 mo 0) sz) (lw0 la e0 mo 0) := va_D_one
  refine lv_aload_n hF.1 hF.2.1 dJ2_clear_0 rfl (lv_at hl 0 rfl) ?_
  refine lv_dup hF.1 hF.2.1 dJ2_clear_1 rfl ?_
  refine va_get hF.1 hF.2.1 hF.2.2.2.2 in_J2 hF.2.2.2.1 hK hP 0 rfl rfl 0 (by decide) (hF.2.2.2.2 _ q139) (fun x h => u_same (hF.2.2.2.2 _ q140) x h) rfl dJ2_clear_2 ?_
  refine lv_iconst (v := nI 1) hF.1 hF.2.1 dJ2_clear_5 (by decide) ?_
  refine lv_iadd hF.1 hF.2.1 dJ2_clear_6 ?_
  refine va_put (v := .int (mo + nI 1)) (ty := .int) hF.1 hF.2.1 hF.2.2.2.2 in_J2 tyJ2 tyJ2_ok nmJ2 hF.2.2.2.1 hK hP hD hS 0 rfl rfl 0 (by decide) (hF.2.2.2.2 _ q139) (fun x h => u_same (hF.2.2.2.2 _ q140) x h) rfl (by decide +kernel) rfl rfl (Nat.le_of_ble_eq_true rfl) dJ2_clear_7 (fun H locs hP hD hS => ?_)
  refine lv_aload_n hF.1 hF.2.1 dJ2_clear_10 rfl (lv_at hl 0 rfl) ?_
  refine va_get hF.1 hF.2.1 hF.2.2.2.2 in_J2 hF.2.2.2.1 hK hP 0 rfl rfl 1 (by decide) (hF.2.2.2.2 _ q136) (fun _ h => h) rfl dJ2_clear_11 ?_
  refine lv_astore_n (lv' := [(1, .ref e0), (0, .ref la)]) hF.1 hF.2.1 dJ2_clear_14 rfl hl (by decide) rfl (fun ls hl => ?_)
  refine lv_aload_n hF.1 hF.2.1 dJ2_clear_15 rfl (lv_at hl 1 rfl) ?_
  refine va_get hF.1 hF.2.1 hF.2.2.2.2 in_J2 hF.2.2.2.1 hK hP 0 rfl rfl 2 (by decide) (hF.2.2.2.2 _ q137) (fun _ h => h) rfl dJ2_clear_16 ?_
  refine lv_istore_n (lv' := [(2, .int (nI 0)), (1, .ref e0), (0, .ref la)]) hF.1 hF.2.1 dJ2_clear_19 rfl hl (by decide) rfl (fun ls hl => ?_)
  refine lv_aload_n hF.1 hF.2.1 dJ2_clear_20 rfl (lv_at hl 2 rfl) ?_
  refine lv_iconst (v := nI 0) hF.1 hF.2.1 dJ2_clear_21 (by decide) ?_
  refine lv_dup_x1 hF.1 hF.2.1 dJ2_clear_22 rfl rfl ?_
  refine va_put (v := .int (nI 0)) (ty := .int) hF.1 hF.2.1 hF.2.2.2.2 in_J2 tyJ2 tyJ2_ok nmJ2 hF.2.2.2.1 hK hP hD hS 0 rfl rfl 2 (by decide) (hF.2.2.2.2 _ q137) (fun _ h => h) rfl (by decide +kernel) rfl rfl (Nat.le_of_ble_eq_true rfl) dJ2_clear_23 (fun H locs hP hD hS => ?_)
  refine lv_istore_n (lv' := [(3, .int (nI 0)), (2, .int (nI 0)), (1, .ref e0), (0, .ref la)]) hF.1 hF.2.1 dJ2_clear_26 rfl hl (by decide) rfl (fun ls hl => ?_)
  refine lv_iload_n hF.1 hF.2.1 dJ2_clear_27 rfl (lv_at hl 0 rfl) ?_
  refine lv_iload_n hF.1 hF.2.1 dJ2_clear_28 rfl (lv_at hl 1 rfl) ?_
  refine lv_icmp_ge (tgt := 42) hF.1 hF.2.1 dJ2_clear_29 (by decide) (fun _ => ?_) (fun h => absurd (by decide) h)
  exact hret _ _ 0 _ _ dJ2_clear_42 hP hD hS
theorem kJ2_clear_1 (l : Launch) (ω : OM) (sz la ed n : Nat) (mo : Int32) (f : Nat → Option Nat) (hn : n ≤ 9) (hle : la ≠ ed) : Met l yJ2_clear (ws_ yJ2_clear cJ2_clear 4 none) rmJ2_clear (cPc ω [.ref la] (mK ω) sz (lw1 ω la ed mo n f)) (lQv ω sz (lw1 ω la ed mo n f) (fun _ => lw1 ω la ed (mo + nI 1) 0 (clr f n))) 0 0 (va_A (lw1 ω la ed mo n f) sz) := by
  refine g_entLv (C := RJ2) rfl (by decide) (Nat.le_of_ble_eq_true rfl) ?_
  intro p e s m args below meth c QQ ls H locs hF hK hsz hHs hP hS hl hret
  have hl : lv_has ls 4 [(0, .ref la)] := hl
  have hD : va_D (va_A (lw1 ω la ed mo n f) sz) (lw1 ω la ed mo n f) := va_D_two hle
  refine lv_aload_n hF.1 hF.2.1 dJ2_clear_0 rfl (lv_at hl 0 rfl) ?_
  refine lv_dup hF.1 hF.2.1 dJ2_clear_1 rfl ?_
  refine va_get hF.1 hF.2.1 hF.2.2.2.2 in_J2 hF.2.2.2.1 hK hP 0 rfl rfl 0 (by decide) (hF.2.2.2.2 _ q139) (fun x h => u_same (hF.2.2.2.2 _ q140) x h) rfl dJ2_clear_2 ?_
  refine lv_iconst (v := nI 1) hF.1 hF.2.1 dJ2_clear_5 (by decide) ?_
  refine lv_iadd hF.1 hF.2.1 dJ2_clear_6 ?_
  refine va_put (v := .int (mo + nI 1)) (ty := .int) hF.1 hF.2.1 hF.2.2.2.2 in_J2 tyJ2 tyJ2_ok nmJ2 hF.2.2.2.1 hK hP hD hS 0 rfl rfl 0 (by decide) (hF.2.2.2.2 _ q139) (fun x h => u_same (hF.2.2.2.2 _ q140) x h) rfl (by decide +kernel) rfl rfl (Nat.le_of_ble_eq_true rfl) dJ2_clear_7 (fun H locs hP hD hS => ?_)
  refine lv_aload_n hF.1 hF.2.1 dJ2_clear_10 rfl (lv_at hl 0 rfl) ?_
  refine va_get hF.1 hF.2.1 hF.2.2.2.2 in_J2 hF.2.2.2.1 hK hP 0 rfl rfl 1 (by decide) (hF.2.2.2.2 _ q136) (fun _ h => h) rfl dJ2_clear_11 ?_
  refine lv_astore_n (lv' := [(1, .ref ed), (0, .ref la)]) hF.1 hF.2.1 dJ2_clear_14 rfl hl (by decide) rfl (fun ls hl => ?_)
  refine lv_aload_n hF.1 hF.2.1 dJ2_clear_15 rfl (lv_at hl 1 rfl) ?_
  refine va_get hF.1 hF.2.1 hF.2.2.2.2 in_J2 hF.2.2.2.1 hK hP 0 rfl rfl 2 (by decide) (hF.2.2.2.2 _ q137) (fun _ h => h) rfl dJ2_clear_16 ?_
  refine lv_istore_n (lv' := [(2, .int (nI n)), (1, .ref ed), (0, .ref la)]) hF.1 hF.2.1 dJ2_clear_19 rfl hl (by decide) rfl (fun ls hl => ?_)
  refine lv_aload_n hF.1 hF.2.1 dJ2_clear_20 rfl (lv_at hl 2 rfl) ?_
  refine lv_iconst (v := nI 0) hF.1 hF.2.1 dJ2_clear_21 (by decide) ?_
  refine lv_dup_x1 hF.1 hF.2.1 dJ2_clear_22 rfl rfl ?_
  refine va_put (v := .int (nI 0)) (ty := .int) hF.1 hF.2.1 hF.2.2.2.2 in_J2 tyJ2 tyJ2_ok nmJ2 hF.2.2.2.1 hK hP hD hS 0 rfl rfl 2 (by decide) (hF.2.2.2.2 _ q137) (fun _ h => h) rfl (by decide +kernel) rfl rfl (Nat.le_of_ble_eq_true rfl) dJ2_clear_23 (fun H locs hP hD hS => ?_)
  refine lv_istore_n (lv' := [(3, .int (nI 0)), (2, .int (nI n)), (1, .ref ed), (0, .ref la)]) hF.1 hF.2.1 dJ2_clear_26 rfl hl (by decide) rfl (fun ls hl => ?_)
  have loop : ∀ (d i : Nat) (ls : Array Slot) (H : Heap) (locs : List Loc), i + d = n → lv_has ls 4 [(3, .int (nI i)), (2, .int (nI n)), (1, .ref ed), (0, .ref la)] → va_P ω.1 vwCl (lw1 ω la ed (mo + nI 1) 0 (clr f i)) H → va_D (va_A (lw1 ω la ed mo n f) sz) (lw1 ω la ed (mo + nI 1) 0 (clr f i)) → va_S (va_A (lw1 ω la ed mo n f) sz) s.heap H locs → W p l e rmJ2_clear s m args below meth c H locs 0 0 QQ (F0 m 27 ls []) := by
    intro d
    induction d with
    | zero =>
      intro i ls H locs hi hl hP hD hS
      have hin : i = n := by omega
      rw [hin] at hP hD
      refine lv_iload_n hF.1 hF.2.1 dJ2_clear_27 rfl (lv_at hl 0 rfl) ?_
      refine lv_iload_n hF.1 hF.2.1 dJ2_clear_28 rfl (lv_at hl 1 rfl) ?_
      refine n_ge (tgt := 42) hF.1 hF.2.1 dJ2_clear_29 (by decide) (by omega) (by omega) (fun _ => ?_) (fun h => absurd h (by omega))
      exact hret _ _ 0 _ _ dJ2_clear_42 hP hD hS
    | succ d ih =>
      intro i ls H locs hi hl hP hD hS
      refine lv_iload_n hF.1 hF.2.1 dJ2_clear_27 rfl (lv_at hl 0 rfl) ?_
      refine lv_iload_n hF.1 hF.2.1 dJ2_clear_28 rfl (lv_at hl 1 rfl) ?_
      refine n_ge (tgt := 42) hF.1 hF.2.1 dJ2_clear_29 (by decide) (by omega) (by omega) (fun h => absurd h (by omega)) (fun _ => ?_)
      refine lv_aload_n hF.1 hF.2.1 dJ2_clear_32 rfl (lv_at hl 2 rfl) ?_
      refine lv_iload_n hF.1 hF.2.1 dJ2_clear_33 rfl (lv_at hl 0 rfl) ?_
      refine lv_null hF.1 hF.2.1 dJ2_clear_34 ?_
      refine va_astqN hF.1 hF.2.1 hK hP hD hS 1 2 rfl rfl (nI_in (N := 10) (by omega) (by omega)) dJ2_clear_35 (fun H locs hP hD hS => ?_)
      rw [nI_clamp (show i < 2 ^ 31 by omega), clr_step] at hP hD
      refine n_iinc (lv' := [(3, .int (nI (i + 1))), (2, .int (nI n)), (1, .ref ed), (0, .ref la)]) hF.1 hF.2.1 dJ2_clear_36 hl (k := 0) rfl (by decide) rfl (fun ls hl => ?_)
      refine lv_goto (tgt := 27) hF.1 hF.2.1 dJ2_clear_39 (by decide) ?_
      exact ih (i + 1) _ _ _ (by omega) hl hP hD hS
  exact loop n 0 _ _ _ (by omega) hl (by rw [clr_0]; exact hP) (by rw [clr_0]; exact hD) hS
