/-! lay: the walk -/
set_option maxRecDepth 100000
theorem P_one {D : va_G} {cl : List vw_C} {H : Heap} {a : Nat} {ee : va_E} (h : va_at D cl (a, ee) H) : va_P D cl [(a, ee)] H := by
  intro k q hq
  have hz : k < 1 := (List.getElem?_eq_some_iff.mp hq).1
  rw [show k = 0 by omega] at hq
  cases hq
  exact h
theorem P_two {D : va_G} {cl : List vw_C} {H : Heap} {a b : Nat} {ee ff : va_E} (h : va_at D cl (a, ee) H) (h2 : va_at D cl (b, ff) H) : va_P D cl [(a, ee), (b, ff)] H := by
  intro k q hq
  have hz : k < 2 := (List.getElem?_eq_some_iff.mp hq).1
  rcases (show k = 0 ∨ k = 1 by omega) with z | z <;> subst z <;> cases hq
  · exact h
  · exact h2
def bgA (a : Nat → Nat → Nat → Int32) : Nat → Nat → Nat → Int32 := up2 (up2 (up2 (up2 (up2 (up2 (up2 (up2 a (0 + 6) 1 (fX1_begin a 0).1) (0 + 6) 2 (fX1_begin a 0).2.1) (0 + 6) 3 (fX1_begin a 0).2.2.1) (0 + 6) 4 (fX1_begin a 0).2.2.2.1) (0 + 6) 5 (fX1_begin a 0).2.2.2.2.1) (0 + 6) 6 (fX1_begin a 0).2.2.2.2.2.1) (0 + 6) 7 (fX1_begin a 0).2.2.2.2.2.2.1) (0 + 6) 8 (fX1_begin a 0).2.2.2.2.2.2.2.1
theorem bgA_0 (a : Nat → Nat → Nat → Int32) : bgA a (0 + 6) 0 = a (0 + 6) 0 := by simp [bgA, up2]
def layT_b (tf : Nat → Int32) (i : Nat) (S : Nat → Int32) : Nat → Int32 := upd S i (tf i)
def layT (tf : Nat → Int32) (np : Nat) (f : Nat → Int32) : Nat → Int32 := it (layT_b tf) np f
def rmX0_lay : Room := { frames := 6, cells := 9, slots := 90, locals := 140 }
theorem hdX0_lay : yX0_lay.cls = RX0 ∧ yX0_lay.cls ≠ "java/lang/invoke/MethodHandle" ∧ yX0_lay.cls ≠ "java/lang/invoke/VarHandle" ∧ (parseMethodDescriptor yX0_lay.desc).map (fun d => d.parameters.length) = some 1 := by decide +kernel
section LAYW
variable {p : Program} {l : Launch} {e : Env} {s : State} {m : MethodId} {args : Array Value} {below : List Frame} {meth : Method} {c : Code} {H : Heap} {locs : List Loc} {Q : State → Prop} {ls : Array Slot} {ω : OM}
variable {g : Nat → Nat → Nat} {y : Nat → Nat → Int32} {a z : Nat → Nat → Nat → Int32} {dr : Int64} {pg : Nat → Int32} {t : TW} {r rtd np : Nat} {tf : Nat → Int32} {f0 f3 f4 : Value}
theorem lay_tail (hF : CallFix p m c cX0_lay 3 s args lw_all RX0) (hK : xK ω s) (hX : xH ω (g, y, a, z, dr, pg, t) H) (hS : va_S ω.2.2.1 s.heap H locs) (hnp : np ≤ 3)
    (hR : ∀ (H : Heap) (locs : List Loc), va_S ω.2.2.1 s.heap H locs → va_P ω.1 vwCl [(r, .inr (3, [f0, .int (nI np), .ref rtd, f3, f4]))] H) (hT : ∀ (H : Heap) (locs : List Loc), va_S ω.2.2.1 s.heap H locs → va_P ω.1 vwCl [(rtd, .inl (ω.2.2.2.1, 3, .inl tf))] H) {v : Value}
    (hl : lv_has ls 3 [(2, v), (0, .ref (ω.2.1 0 99)), (1, .ref r)])
    (hret : ∀ (ls : Array Slot) (H : Heap) (locs : List Loc), xH ω (up2 (up2 g 0 1 np) (0 + 6) 9 0, y, up2 (bgA a) (0 + 6) 0 (layT tf np (a (0 + 6) 0)), z, dr, pg, t) H → va_S ω.2.2.1 s.heap H locs → W p l e rmX0_lay s m args below meth c H locs 9 90 Q (F0 m 91 ls [])) : W p l e rmX0_lay s m args below meth c H locs 9 90 Q (F0 m 45 ls []) := by
  refine lv_aload_n hF.1 hF.2.1 dX0_lay_45 rfl (lv_at hl 1 rfl) ?_
  refine lv_aload_n hF.1 hF.2.1 dX0_lay_46 rfl (lv_at hl 2 rfl) ?_
  refine va_getN hF.1 hF.2.1 hF.2.2.2.2 in_X3 hF.2.2.2.1 hK.1 (hR _ _ hS) 0 rfl rfl 1 (by decide) ((xn_q323 hK.2).use rfl) (fun _ h => h) rfl dX0_lay_47 ?_
  refine xp0_1 (g' := up2 g 0 1 np) hF hK hX hS q219 dX0_lay_50 (by simp [up2]) (by intro i q hq; simp only [up2, if_neg hq]) (fun H locs hX hS => ?_)
  refine lv_aload_n hF.1 hF.2.1 dX0_lay_53 rfl (lv_at hl 1 rfl) ?_
  refine xg0_3 hF hK hX q221 dX0_lay_54 ?_
  refine g_vWv (As := []) (rest := []) hF (kX1_begin l ω (up2 g 0 1 np) y a z dr pg t 0 (by omega)) (lw_V q585 q586 q587 q96 q588) 0 hdX1_begin rfl rfl ⟨Nat.le_of_ble_eq_true rfl, Nat.le_of_ble_eq_true rfl⟩ (x_preV1 (by decide) hK hX) rfl hl.1 rfl (Nat.le_of_ble_eq_true rfl) dX0_lay_57 ⟨Nat.le_of_ble_eq_true rfl, Nat.le_of_ble_eq_true rfl⟩ hS (fun u H locs hq hX hS => ?_)
  obtain ⟨o0, o1, o2, o3, o4, o5, o6, o7, o8, hq, rfl⟩ := hq
  have h8 : o8 = 0 := by
    have := congrArg (fun x => x.2.2.2.2.2.2.2.2) hq
    exact this
  have hA : up2 (up2 (up2 (up2 (up2 (up2 (up2 (up2 a (0 + 6) 1 o0) (0 + 6) 2 o1) (0 + 6) 3 o2) (0 + 6) 4 o3) (0 + 6) 5 o4) (0 + 6) 6 o5) (0 + 6) 7 o6) (0 + 6) 8 o7 = bgA a := by
    unfold bgA
    rw [← hq]
  rw [hA, h8] at hX
  refine lv_iconst (v := nI 0) hF.1 hF.2.1 dX0_lay_60 (by decide) ?_
  refine lv_istore_n (lv' := [(2, .int (nI 0)), (0, .ref (ω.2.1 0 99)), (1, .ref r)]) hF.1 hF.2.1 dX0_lay_61 rfl hl (by decide) rfl (fun ls hl => ?_)
  have loop : ∀ (d i : Nat) (ls : Array Slot) (H : Heap) (locs : List Loc), i + d = np → lv_has ls 3 [(2, .int (nI i)), (0, .ref (ω.2.1 0 99)), (1, .ref r)] → xH ω (up2 (up2 g 0 1 np) (0 + 6) 9 0, y, up2 (bgA a) (0 + 6) 0 (layT tf i (a (0 + 6) 0)), z, dr, pg, t) H → va_S ω.2.2.1 s.heap H locs → W p l e rmX0_lay s m args below meth c H locs 9 90 Q (F0 m 62 ls []) := by
    intro d
    induction d with
    | zero =>
      intro i ls H locs hi hl hX hS
      have hin : i = np := by omega
      rw [hin] at hX
      refine lv_iload_n hF.1 hF.2.1 dX0_lay_62 rfl (lv_at hl 0 rfl) ?_
      refine lv_aload_n hF.1 hF.2.1 dX0_lay_63 rfl (lv_at hl 1 rfl) ?_
      refine xg0_1 hF hK hX q219 dX0_lay_64 (v := np) (by simp [up2]) ?_
      refine n_ge (tgt := 91) hF.1 hF.2.1 dX0_lay_67 (by decide) (by omega) (by omega) (fun _ => ?_) (fun h => absurd h (by omega))
      exact hret _ _ _ hX hS
    | succ d ih =>
      intro i ls H locs hi hl hX hS
      refine lv_iload_n hF.1 hF.2.1 dX0_lay_62 rfl (lv_at hl 0 rfl) ?_
      refine lv_aload_n hF.1 hF.2.1 dX0_lay_63 rfl (lv_at hl 1 rfl) ?_
      refine xg0_1 hF hK hX q219 dX0_lay_64 (v := np) (by simp [up2]) ?_
      refine n_ge (tgt := 91) hF.1 hF.2.1 dX0_lay_67 (by decide) (by omega) (by omega) (fun h => absurd h (by omega)) (fun _ => ?_)
      refine lv_aload_n hF.1 hF.2.1 dX0_lay_70 rfl (lv_at hl 1 rfl) ?_
      refine xg0_3 hF hK hX q221 dX0_lay_71 ?_
      refine xgN_q155 (j := 0) (by decide) hF hK hX dX0_lay_74 ?_
      refine lv_iload_n hF.1 hF.2.1 dX0_lay_77 rfl (lv_at hl 0 rfl) ?_
      refine lv_aload_n hF.1 hF.2.1 dX0_lay_78 rfl (lv_at hl 2 rfl) ?_
      refine va_getN hF.1 hF.2.1 hF.2.2.2.2 in_X3 hF.2.2.2.1 hK.1 (hR _ _ hS) 0 rfl rfl 2 (by decide) ((xn_q325 hK.2).use rfl) (fun _ h => h) rfl dX0_lay_79 ?_
      refine lv_iload_n hF.1 hF.2.1 dX0_lay_82 rfl (lv_at hl 0 rfl) ?_
      refine va_iald hF.1 hF.2.1 hK.1 (hT _ _ hS) 0 0 rfl rfl (nI_in (N := 3) (by omega) (by omega)) dX0_lay_83 ?_
      rw [nI_clamp (show i < 2 ^ 31 by omega)]
      refine x1_ast (a' := up2 (bgA a) (0 + 6) 0 (layT tf (i + 1) (a (0 + 6) 0))) (j := 0) (by decide) hF hK hX hS 0 (n := 3) rfl rfl (by decide) rfl (f := layT tf i (a (0 + 6) 0)) (by simp [up2]) (i := i) (by omega) (by decide) dX0_lay_84 (by simp [up2, layT, it, layT_b]) (by intro i q hq; simp only [up2, if_neg hq]) (fun H locs hX hS => ?_)
      refine n_iinc (lv' := [(2, .int (nI (i + 1))), (0, .ref (ω.2.1 0 99)), (1, .ref r)]) hF.1 hF.2.1 dX0_lay_85 hl (k := 0) rfl (by decide) rfl (fun ls hl => ?_)
      refine lv_goto (tgt := 62) hF.1 hF.2.1 dX0_lay_88 (by decide) ?_
      exact ih (i + 1) _ _ _ (by omega) hl hX hS
  refine loop np 0 _ _ _ (by omega) hl ?_ hS
  have e : up2 (bgA a) (0 + 6) 0 (layT tf 0 (a (0 + 6) 0)) = bgA a := by
    funext i k
    unfold up2
    by_cases h : i = 0 + 6 ∧ k = 0
    · rw [if_pos h, h.1, h.2]; exact (bgA_0 a).symm
    · rw [if_neg h]
  rw [e]
  exact hX
end LAYW
