/-! THE READER: a street is read -/
set_option maxRecDepth 100000
/-- a kind's letter -/
def kc : Nat → Nat
  | 0 => 115
  | 1 => 108
  | 2 => 113
  | 3 => 106
  | _ => 103
def dgt (g : Nat → Nat → Nat) (pg : Nat → Int32) (p lo hi d : Nat) : Prop := p < g 0 7 ∧ lo ≤ d ∧ d ≤ hi ∧ pg p = nI (48 + d)
def sKind (g : Nat → Nat → Nat) (pg : Nat → Int32) (pl k : Nat) : Prop := k < 5 ∧ nx g pg pl = nI (kc k)
def sOK (g : Nat → Nat → Nat) (pg : Nat → Int32) (pl k a b l : Nat) : Prop := sKind g pg pl k ∧ dgt g pg (pl + 1) 0 7 a ∧ dgt g pg (pl + 1 + 1) 0 7 b ∧ ¬ a = b ∧ dgt g pg (pl + 1 + 1 + 1) 1 9 l
def sBad (g : Nat → Nat → Nat) (pg : Nat → Int32) (pl n : Nat) : Prop := (n = pl ∧ ∀ k, ¬ sKind g pg pl k) ∨ (∃ k, sKind g pg pl k ∧ n = pl + 1 ∧ ¬ isDg g pg (pl + 1) 0 7) ∨ (∃ k a, sKind g pg pl k ∧ dgt g pg (pl + 1) 0 7 a ∧ n = pl + 1 + 1 ∧ (¬ isDg g pg (pl + 1 + 1) 0 7 ∨ nx g pg (pl + 1 + 1) - nI 48 = nI a)) ∨ (∃ k a b, sKind g pg pl k ∧ dgt g pg (pl + 1) 0 7 a ∧ dgt g pg (pl + 1 + 1) 0 7 b ∧ ¬ a = b ∧ n = pl + 1 + 1 + 1 ∧ ¬ isDg g pg (pl + 1 + 1 + 1) 1 9)
theorem no_kind {g : Nat → Nat → Nat} {pg : Nat → Int32} {pl : Nat} (h0 : ¬ nx g pg pl = nI 115) (h1 : ¬ nx g pg pl = nI 108) (h2 : ¬ nx g pg pl = nI 113) (h3 : ¬ nx g pg pl = nI 106) (h4 : ¬ nx g pg pl = nI 103) : ∀ k, ¬ sKind g pg pl k := by
  rintro k ⟨h, e⟩
  rcases (show k = 0 ∨ k = 1 ∨ k = 2 ∨ k = 3 ∨ k = 4 by omega) with z | z | z | z | z <;> subst z
  · exact h0 e
  · exact h1 e
  · exact h2 e
  · exact h3 e
  · exact h4 e
theorem dgt_nx {g : Nat → Nat → Nat} {pg : Nat → Int32} {p lo hi d : Nat} (h : dgt g pg p lo hi d) (h9 : hi ≤ 9) : nx g pg p - nI 48 = nI d := by
  obtain ⟨h1, h2, h3, h4⟩ := h
  unfold nx
  rw [if_neg (by omega), h4, nI_sub (by omega) (by omega), Nat.add_sub_cancel_left]
theorem y_preS {ω : OM} {σ : RA} {e0 : Nat} {v1 v2 : Value} {u : XS} {ρ : RD} {s : State} {H : Heap} {locs : List Loc} (hK : yK ω e0 v1 v2 s) (hH : yH ω σ u ρ H) (hS : va_S ω.2.2.1 s.heap H locs) {As : List Value} : PreS s H (va_Pc As (fun U => yK ω e0 v1 v2 U ∧ yH ω σ u ρ U.heap)) As :=
  ⟨fun a U g mk q => ⟨q.1, q.2.1.call, q.2.2⟩, fun U hU hW => ⟨rfl, hK.to (U := U) (by rw [hU]; exact hS) hW, by rw [hU]; exact hH⟩⟩
section SNW
variable {p : Program} {l : Launch} {e : Env} {R : Room} {s : State} {m : MethodId} {args : Array Value} {below : List Frame} {meth : Method} {c : Code} {H : Heap} {locs : List Loc} {cells slots : Nat} {Q : State → Prop}
variable {y : MethodName} {bytes cc : ByteArray} {maxL nL index mc ms : Nat} {ret : Option FieldType} {rm : Room} {own host : String} {As rest st0 : List Value} {pc : Nat} {ls : Array Slot} {Pc : Array Value → State → Prop} {Hp : Nat → Heap → Prop} {A : Nat → Prop}
/-- a nest mate's static method that answers a new cell -/
theorem g_sNWr (hF : CallFix p m c cc nL s args lw_all own) (hM : Met l y (ws_ y bytes maxL ret) rm Pc (va_Qr (fun (_ : Unit) => True) (fun _ q t => Hp q t.heap) A) mc ms A) (hG : GoodIn lw_all (ws_ y bytes maxL ret)) (hN : va_Nw (.methodLinkNest own index y host) s) (hini : Cond.initialized y.cls ∈ lw_all) (hstat : Cond.static y ∈ lw_all) (n : Nat) (hd : y.cls ≠ "java/lang/invoke/MethodHandle" ∧ y.cls ≠ "java/lang/invoke/VarHandle" ∧ (parseMethodDescriptor y.desc).map (fun d => d.parameters.length) = some n) (hrc : rm.cells = mc) (hrs : rm.slots = ms) (hR : rm.frames + 1 ≤ R.frames ∧ 8 + (maxL + 11) + rm.locals ≤ R.locals) (hp : PreS s H Pc As) (hn : As.length = n) (hls : ls.size = nL) (hst : st0 = As.reverse ++ rest) (hW : (rest.map fun v => v.category).sum ≤ 8) (hdg : decode cc pc = .ok (.invokestatic index, 3)) (hcap : cells + mc ≤ R.cells ∧ slots + ms ≤ R.slots) (hS : va_S A s.heap H locs)
    (kk : ∀ (q : Nat) (H : Heap) (locs : List Loc), Hp q H → va_S A s.heap H locs → W p l e R s m args below meth c H locs (cells + mc) (slots + ms) Q (F0 m (pc + 3) ls (.ref q :: rest))) : W p l e R s m args below meth c H locs cells slots Q (F0 m pc ls st0) :=
  va_callr (va_runSN (As := As) (rest := rest) hF hM ⟨va_cnB n hF.2.2.2.2 hG rfl hrc hrs hN (hF.2.2.2.2 _ hini) hd hR, hF.2.2.2.2 _ hstat, trivial⟩ hp rfl hn hls hst (lv_room hW) hdg hcap) hS (fun _ _ h => h) (fun _ h => h) (fun _ q t H1 locs1 ht _ _ hB _ _ hS1 => kk q H1 locs1 (by rw [← ht]; exact hB) hS1)
end SNW
/-! (gen/y2.py) -/
def rmX3_street : Room := { frames := 6, cells := 7, slots := 48, locals := 140 }
theorem hdX3_street : yX3_street.cls = RX3 ∧ yX3_street.cls ≠ "java/lang/invoke/MethodHandle" ∧ yX3_street.cls ≠ "java/lang/invoke/VarHandle" ∧ (parseMethodDescriptor yX3_street.desc).map (fun d => d.parameters.length) = some 0 := by decide +kernel
theorem kX3_street (l : Launch) (ω : OM) (σ : RA) (e0 : Nat) (v1 v2 : Value) (g : Nat → Nat → Nat) (y : Nat → Nat → Int32) (a z : Nat → Nat → Nat → Int32) (dr : Int64) (pg : Nat → Int32) (t : TW) (pl pp : Nat) (tf : Nat → Int32) (rt : TW) (b2 b3 : Nat) (hp50 : g 0 7 ≤ 50) (hpl : pl ≤ 54) (h8 : tn rt ≤ 8) (hte : town rt = false → ted rt = e0) : MetT l yX3_street (ws_ yX3_street cX3_street 3 none) rmX3_street (va_Pc [.ref σ.1] (fun U => yK ω e0 v1 v2 U ∧ yH ω σ (g, y, a, z, dr, pg, t) (pl, pp, tf, rt, (false, 0, 0, 0, 0, 0), (false, b2, b3)) U.heap)) (va_QT (fun oc (ρ : RD) => (∃ k a b l q ed, sOK g pg pl k a b l ∧ oc = .returned none ∧ ρ = (pl + 1 + 1 + 1 + 1, pp, tf, tpush rt k a b l q ed, (false, 0, 0, 0, 0, 0), (false, b2, b3))) ∨ (∃ n, sBad g pg pl n ∧ thr n oc ρ)) (fun ρ t' => yH ω σ (g, y, a, z, dr, pg, t) ρ t'.heap) ω.2.2.1) 7 48 ω.2.2.1 := by
  refine g_entT (C := RX3) (Hp := yH ω σ (g, y, a, z, dr, pg, t)) rfl (by decide) (Nat.le_of_ble_eq_true rfl) ?_
  intro p e s m args below meth c QQ ls H locs hF hK hH hS hl hE
  have hl : lv_has ls 3 [(0, .ref σ.1)] := hl
  refine lv_aload_n hF.1 hF.2.1 dX3_street_0 rfl (lv_at hl 0 rfl) ?_
  refine lv_bipush (v := nI 115) hF.1 hF.2.1 dX3_street_1 (by decide) ?_
  refine g_vWi (As := [.int (nI 115)]) (rest := []) hF (kX3_takes l ω σ e0 v1 v2 g y a z dr pg t pl pp tf rt ((false, 0, 0, 0, 0, 0)) b2 b3 (nI 115) hp50 (by omega)) (lw_V q420 q422 qs4 q98 q423) 1 hdX3_takes rfl rfl ⟨Nat.le_of_ble_eq_true rfl, Nat.le_of_ble_eq_true rfl⟩ (y_preV hK hH hS) rfl hl.1 rfl (Nat.le_of_ble_eq_true rfl) dX3_street_3 ⟨(by first | exact Nat.le_of_ble_eq_true rfl | (simp only [rmX3_street]; omega)), (by first | exact Nat.le_of_ble_eq_true rfl | (simp only [rmX3_street]; omega))⟩ hS (fun r ρ' H locs hq hH hS => ?_)
  rcases hq with ⟨rfl, t1, rfl⟩ | ⟨rfl, t1, rfl⟩
  · skip
    refine lv_if_eq (tgt := 13) hF.1 hF.2.1 dX3_street_6 (by decide) (fun h => absurd h (by decide)) (fun _ => ?_)
    refine lv_iconst (v := nI 0) hF.1 hF.2.1 dX3_street_9 (by decide) ?_
    refine lv_goto (tgt := 66) hF.1 hF.2.1 dX3_street_10 (by decide) ?_
    refine lv_istore_n (lv' := [(1, .int (nI 0)), (0, .ref σ.1)]) hF.1 hF.2.1 dX3_street_66 rfl hl (by decide) rfl (fun ls hl => ?_)
    refine lv_aload_n hF.1 hF.2.1 dX3_street_67 rfl (lv_at hl 1 rfl) ?_
    refine lv_iload_n hF.1 hF.2.1 dX3_street_68 rfl (lv_at hl 0 rfl) ?_
    refine lv_iconst (v := (-1)) hF.1 hF.2.1 dX3_street_69 (by decide) ?_
    refine lv_icmp_eq (tgt := 77) hF.1 hF.2.1 dX3_street_70 (by decide) (fun h => absurd h (by decide)) (fun _ => ?_)
    refine lv_iconst (v := nI 1) hF.1 hF.2.1 dX3_street_73 (by decide) ?_
    refine lv_goto (tgt := 78) hF.1 hF.2.1 dX3_street_74 (by decide) ?_
    refine g_vT (As := [.int (nI 1)]) (rest := []) hF (kX3_want l ω σ e0 v1 v2 (g, y, a, z, dr, pg, t) (pl + 1) pp tf rt ((false, 0, 0, 0, 0, 0)) b2 b3 (nI 1)) (lw_V q353 q355 qs2 q98 q356) 1 hdX3_want rfl rfl ⟨Nat.le_of_ble_eq_true rfl, Nat.le_of_ble_eq_true rfl⟩ (y_preV hK hH hS) rfl hl.1 rfl (Nat.le_of_ble_eq_true rfl) dX3_street_78 ⟨(by first | exact Nat.le_of_ble_eq_true rfl | (simp only [rmX3_street]; omega)), (by first | exact Nat.le_of_ble_eq_true rfl | (simp only [rmX3_street]; omega))⟩ hS (fun o ρ' H locs hq hH hS => ?_)
    rcases hq with ⟨w4, rfl, rfl⟩ | ⟨w4, hthr⟩
    · skip
      show W p l e rmX3_street s m args below meth c H locs 1 7 QQ (F0 m 81 ls [])
      refine lv_iload_n hF.1 hF.2.1 dX3_street_81 rfl (lv_at hl 0 rfl) ?_
      refine g_sNWr (As := [.int (nI 0)]) (rest := []) hF (kX0_made l ω σ e0 v1 v2 (g, y, a, z, dr, pg, t) (pl + 1) pp tf rt 0 0 0 0 0 (false, b2, b3) 0 (by omega)) (lw_meth q430) (xn_q428 hK.1.2) q92 q429 1 hdX0_made.2 rfl rfl ⟨Nat.le_of_ble_eq_true rfl, Nat.le_of_ble_eq_true rfl⟩ (y_preS hK hH hS) rfl hl.1 rfl (Nat.le_of_ble_eq_true rfl) dX3_street_82 ⟨(by first | exact Nat.le_of_ble_eq_true rfl | (simp only [rmX3_street]; omega)), (by first | exact Nat.le_of_ble_eq_true rfl | (simp only [rmX3_street]; omega))⟩ hS (fun cq H locs hH hS => ?_)
      refine lv_astore_n (lv' := [(2, .ref cq), (1, .int (nI 0)), (0, .ref σ.1)]) hF.1 hF.2.1 dX3_street_85 rfl hl (by decide) rfl (fun ls hl => ?_)
      refine lv_aload_n hF.1 hF.2.1 dX3_street_86 rfl (lv_at hl 0 rfl) ?_
      refine lv_aload_n hF.1 hF.2.1 dX3_street_87 rfl (lv_at hl 2 rfl) ?_
      refine lv_iconst (v := nI 0) hF.1 hF.2.1 dX3_street_88 (by decide) ?_
      refine lv_bipush (v := nI 7) hF.1 hF.2.1 dX3_street_89 (by decide) ?_
      refine g_vT (As := [.int (nI 0), .int (nI 7)]) (rest := [.ref cq]) hF (kX3_digit l ω σ e0 v1 v2 g y a z dr pg t (pl + 1) pp tf rt ((true, cq, 0, 0, 0, 0)) b2 b3 0 7 hp50 (by omega) (by omega) (by omega)) (lw_V q344 q346 qs0 q98 q347) 2 hdX3_digit rfl rfl ⟨Nat.le_of_ble_eq_true rfl, Nat.le_of_ble_eq_true rfl⟩ (y_preV hK hH hS) rfl hl.1 rfl (Nat.le_of_ble_eq_true rfl) dX3_street_91 ⟨(by first | exact Nat.le_of_ble_eq_true rfl | (simp only [rmX3_street]; omega)), (by first | exact Nat.le_of_ble_eq_true rfl | (simp only [rmX3_street]; omega))⟩ hS (fun o ρ' H locs hq hH hS => ?_)
      rcases hq with ⟨n6, g5, rfl, rfl⟩ | ⟨g5, hthr⟩
      · skip
        show W p l e rmX3_street s m args below meth c H locs 3 17 QQ (F0 m 94 ls [.int (nI n6), .ref cq])
        refine yp_one hF hK.1 hH hS q441 dX3_street_94 (fun H locs hH hS => ?_)
        refine lv_aload_n hF.1 hF.2.1 dX3_street_97 rfl (lv_at hl 2 rfl) ?_
        refine lv_aload_n hF.1 hF.2.1 dX3_street_98 rfl (lv_at hl 2 rfl) ?_
        refine g_vPi (As := []) (rest := [.ref σ.1]) hF (kX3_next l ω σ e0 v1 v2 g y a z dr pg t ((pl + 1) + 1) pp tf rt ((true, cq, 0, n6, 0, 0)) b2 b3 hp50 (by omega)) (lw_V q348 q350 qs1 q98 q351) 0 hdX3_next rfl rfl ⟨Nat.le_of_ble_eq_true rfl, Nat.le_of_ble_eq_true rfl⟩ (y_preV hK hH hS) rfl hl.1 rfl (Nat.le_of_ble_eq_true rfl) dX3_street_99 ⟨(by first | exact Nat.le_of_ble_eq_true rfl | (simp only [rmX3_street]; omega)), (by first | exact Nat.le_of_ble_eq_true rfl | (simp only [rmX3_street]; omega))⟩ (fun r e_r => ?_)
        subst e_r
        refine lv_bipush (v := nI 48) hF.1 hF.2.1 dX3_street_102 (by decide) ?_
        refine lv_isub hF.1 hF.2.1 dX3_street_104 ?_
        refine lv_aload_n hF.1 hF.2.1 dX3_street_105 rfl (lv_at hl 0 rfl) ?_
        refine yg_one hF hK.1 hH q441 dX3_street_106 ?_
        refine lv_icmp_eq (tgt := 116) hF.1 hF.2.1 dX3_street_109 (by decide) (fun c7 => ?_) (fun c7 => ?_)
        · skip
          refine lv_iconst (v := nI 0) hF.1 hF.2.1 dX3_street_116 (by decide) ?_
          refine g_vT (As := [.int (nI 0)]) (rest := []) hF (kX3_want l ω σ e0 v1 v2 (g, y, a, z, dr, pg, t) ((pl + 1) + 1) pp tf rt ((true, cq, 0, n6, 0, 0)) b2 b3 (nI 0)) (lw_V q353 q355 qs2 q98 q356) 1 hdX3_want rfl rfl ⟨Nat.le_of_ble_eq_true rfl, Nat.le_of_ble_eq_true rfl⟩ (y_preV hK hH hS) rfl hl.1 rfl (Nat.le_of_ble_eq_true rfl) dX3_street_117 ⟨(by first | exact Nat.le_of_ble_eq_true rfl | (simp only [rmX3_street]; omega)), (by first | exact Nat.le_of_ble_eq_true rfl | (simp only [rmX3_street]; omega))⟩ hS (fun o ρ' H locs hq hH hS => ?_)
          rcases hq with ⟨w8, rfl, rfl⟩ | ⟨w8, hthr⟩
          · exact absurd nI_0 w8
          · skip
            obtain ⟨qq, rfl, hso⟩ := hthr
            refine WT.widen (k := 7) (n := 48) (by first | exact Nat.le_of_ble_eq_true rfl | omega) (by first | exact Nat.le_of_ble_eq_true rfl | omega) ?_
            exact hE.2.2.2.2 _ _ qq _ ρ' _ _ (Or.inr ⟨_, Or.inr (Or.inr (Or.inl ⟨0, n6, ⟨by omega, t1⟩, g5, rfl, Or.inr c7⟩)), qq, rfl, hso⟩) hH hS
        · skip
          refine lv_iconst (v := nI 1) hF.1 hF.2.1 dX3_street_112 (by decide) ?_
          refine lv_goto (tgt := 117) hF.1 hF.2.1 dX3_street_113 (by decide) ?_
          refine g_vT (As := [.int (nI 1)]) (rest := []) hF (kX3_want l ω σ e0 v1 v2 (g, y, a, z, dr, pg, t) ((pl + 1) + 1) pp tf rt ((true, cq, 0, n6, 0, 0)) b2 b3 (nI 1)) (lw_V q353 q355 qs2 q98 q356) 1 hdX3_want rfl rfl ⟨Nat.le_of_ble_eq_true rfl, Nat.le_of_ble_eq_true rfl⟩ (y_preV hK hH hS) rfl hl.1 rfl (Nat.le_of_ble_eq_true rfl) dX3_street_117 ⟨(by first | exact Nat.le_of_ble_eq_true rfl | (simp only [rmX3_street]; omega)), (by first | exact Nat.le_of_ble_eq_true rfl | (simp only [rmX3_street]; omega))⟩ hS (fun o ρ' H locs hq hH hS => ?_)
          rcases hq with ⟨w9, rfl, rfl⟩ | ⟨w9, hthr⟩
          · skip
            show W p l e rmX3_street s m args below meth c H locs 4 24 QQ (F0 m 120 ls [])
            refine lv_aload_n hF.1 hF.2.1 dX3_street_120 rfl (lv_at hl 0 rfl) ?_
            refine lv_aload_n hF.1 hF.2.1 dX3_street_121 rfl (lv_at hl 2 rfl) ?_
            refine lv_iconst (v := nI 0) hF.1 hF.2.1 dX3_street_122 (by decide) ?_
            refine lv_bipush (v := nI 7) hF.1 hF.2.1 dX3_street_123 (by decide) ?_
            refine g_vT (As := [.int (nI 0), .int (nI 7)]) (rest := [.ref cq]) hF (kX3_digit l ω σ e0 v1 v2 g y a z dr pg t ((pl + 1) + 1) pp tf rt ((true, cq, 0, n6, 0, 0)) b2 b3 0 7 hp50 (by omega) (by omega) (by omega)) (lw_V q344 q346 qs0 q98 q347) 2 hdX3_digit rfl rfl ⟨Nat.le_of_ble_eq_true rfl, Nat.le_of_ble_eq_true rfl⟩ (y_preV hK hH hS) rfl hl.1 rfl (Nat.le_of_ble_eq_true rfl) dX3_street_125 ⟨(by first | exact Nat.le_of_ble_eq_true rfl | (simp only [rmX3_street]; omega)), (by first | exact Nat.le_of_ble_eq_true rfl | (simp only [rmX3_street]; omega))⟩ hS (fun o ρ' H locs hq hH hS => ?_)
            rcases hq with ⟨n11, g10, rfl, rfl⟩ | ⟨g10, hthr⟩
            · skip
              show W p l e rmX3_street s m args below meth c H locs 5 31 QQ (F0 m 128 ls [.int (nI n11), .ref cq])
              refine yp_other hF hK.1 hH hS q445 dX3_street_128 (fun H locs hH hS => ?_)
              have hab : ¬ n6 = n11 := fun q => c7 (by rw [q]; exact dgt_nx g10 (by omega))
              refine lv_aload_n hF.1 hF.2.1 dX3_street_131 rfl (lv_at hl 0 rfl) ?_
              refine lv_aload_n hF.1 hF.2.1 dX3_street_132 rfl (lv_at hl 2 rfl) ?_
              refine lv_iconst (v := nI 1) hF.1 hF.2.1 dX3_street_133 (by decide) ?_
              refine lv_bipush (v := nI 9) hF.1 hF.2.1 dX3_street_134 (by decide) ?_
              refine g_vT (As := [.int (nI 1), .int (nI 9)]) (rest := [.ref cq]) hF (kX3_digit l ω σ e0 v1 v2 g y a z dr pg t (((pl + 1) + 1) + 1) pp tf rt ((true, cq, 0, n6, n11, 0)) b2 b3 1 9 hp50 (by omega) (by omega) (by omega)) (lw_V q344 q346 qs0 q98 q347) 2 hdX3_digit rfl rfl ⟨Nat.le_of_ble_eq_true rfl, Nat.le_of_ble_eq_true rfl⟩ (y_preV hK hH hS) rfl hl.1 rfl (Nat.le_of_ble_eq_true rfl) dX3_street_136 ⟨(by first | exact Nat.le_of_ble_eq_true rfl | (simp only [rmX3_street]; omega)), (by first | exact Nat.le_of_ble_eq_true rfl | (simp only [rmX3_street]; omega))⟩ hS (fun o ρ' H locs hq hH hS => ?_)
              rcases hq with ⟨n13, g12, rfl, rfl⟩ | ⟨g12, hthr⟩
              · skip
                show W p l e rmX3_street s m args below meth c H locs 6 38 QQ (F0 m 139 ls [.int (nI n13), .ref cq])
                refine yp_length hF hK.1 hH hS q449 dX3_street_139 (fun H locs hH hS => ?_)
                refine lv_aload_n hF.1 hF.2.1 dX3_street_142 rfl (lv_at hl 2 rfl) ?_
                refine yg_streets hF hK.1 hH q326 dX3_street_143 ?_
                refine lv_aload_n hF.1 hF.2.1 dX3_street_146 rfl (lv_at hl 0 rfl) ?_
                refine y_add hF hK hte hH hS h8 (by omega) (by omega) hab (by omega) (by omega) ⟨Nat.le_of_ble_eq_true rfl, Nat.le_of_ble_eq_true rfl⟩ hl.1 (Nat.le_of_ble_eq_true rfl) dX3_street_147 ⟨(by first | exact Nat.le_of_ble_eq_true rfl | (simp only [rmX3_street]; omega)), (by first | exact Nat.le_of_ble_eq_true rfl | (simp only [rmX3_street]; omega))⟩ (fun ed H locs hH hS => ?_)
                refine lv_pop hF.1 hF.2.1 dX3_street_150 rfl ?_
                exact hE.2.1 _ _ ((((pl + 1) + 1) + 1) + 1, pp, tf, (tpush rt 0 n6 n11 n13 cq ed), (false, 0, 0, 0, 0, 0), (false, b2, b3)) _ _ rfl dX3_street_151 (Or.inl ⟨0, n6, n11, n13, cq, ed, ⟨⟨by omega, t1⟩, g5, g10, hab, g12⟩, rfl, rfl⟩) hH hS
              · skip
                obtain ⟨qq, rfl, hso⟩ := hthr
                refine WT.widen (k := 7) (n := 48) (by first | exact Nat.le_of_ble_eq_true rfl | omega) (by first | exact Nat.le_of_ble_eq_true rfl | omega) ?_
                exact hE.2.2.2.2 _ _ qq _ ρ' _ _ (Or.inr ⟨_, Or.inr (Or.inr (Or.inr ⟨0, n6, _, ⟨by omega, t1⟩, g5, g10, hab, rfl, g12⟩)), qq, rfl, hso⟩) hH hS
            · skip
              obtain ⟨qq, rfl, hso⟩ := hthr
              refine WT.widen (k := 7) (n := 48) (by first | exact Nat.le_of_ble_eq_true rfl | omega) (by first | exact Nat.le_of_ble_eq_true rfl | omega) ?_
              exact hE.2.2.2.2 _ _ qq _ ρ' _ _ (Or.inr ⟨_, Or.inr (Or.inr (Or.inl ⟨0, n6, ⟨by omega, t1⟩, g5, rfl, Or.inl g10⟩)), qq, rfl, hso⟩) hH hS
          · exact absurd w9 (by decide)
      · skip
        obtain ⟨qq, rfl, hso⟩ := hthr
        refine WT.widen (k := 7) (n := 48) (by first | exact Nat.le_of_ble_eq_true rfl | omega) (by first | exact Nat.le_of_ble_eq_true rfl | omega) ?_
        exact hE.2.2.2.2 _ _ qq _ ρ' _ _ (Or.inr ⟨_, Or.inr (Or.inl ⟨0, ⟨by omega, t1⟩, rfl, g5⟩), qq, rfl, hso⟩) hH hS
    · exact absurd w4 (by decide)
  · skip
    refine lv_if_eq (tgt := 13) hF.1 hF.2.1 dX3_street_6 (by decide) (fun _ => ?_) (fun h => absurd (by decide) h)
    refine lv_aload_n hF.1 hF.2.1 dX3_street_13 rfl (lv_at hl 0 rfl) ?_
    refine lv_bipush (v := nI 108) hF.1 hF.2.1 dX3_street_14 (by decide) ?_
    refine g_vWi (As := [.int (nI 108)]) (rest := []) hF (kX3_takes l ω σ e0 v1 v2 g y a z dr pg t pl pp tf rt ((false, 0, 0, 0, 0, 0)) b2 b3 (nI 108) hp50 (by omega)) (lw_V q420 q422 qs4 q98 q423) 1 hdX3_takes rfl rfl ⟨Nat.le_of_ble_eq_true rfl, Nat.le_of_ble_eq_true rfl⟩ (y_preV hK hH hS) rfl hl.1 rfl (Nat.le_of_ble_eq_true rfl) dX3_street_16 ⟨(by first | exact Nat.le_of_ble_eq_true rfl | (simp only [rmX3_street]; omega)), (by first | exact Nat.le_of_ble_eq_true rfl | (simp only [rmX3_street]; omega))⟩ hS (fun r ρ' H locs hq hH hS => ?_)
    rcases hq with ⟨rfl, t15, rfl⟩ | ⟨rfl, t15, rfl⟩
    · skip
      refine lv_if_eq (tgt := 26) hF.1 hF.2.1 dX3_street_19 (by decide) (fun h => absurd h (by decide)) (fun _ => ?_)
      refine lv_iconst (v := nI 1) hF.1 hF.2.1 dX3_street_22 (by decide) ?_
      refine lv_goto (tgt := 66) hF.1 hF.2.1 dX3_street_23 (by decide) ?_
      refine lv_istore_n (lv' := [(1, .int (nI 1)), (0, .ref σ.1)]) hF.1 hF.2.1 dX3_street_66 rfl hl (by decide) rfl (fun ls hl => ?_)
      refine lv_aload_n hF.1 hF.2.1 dX3_street_67 rfl (lv_at hl 1 rfl) ?_
      refine lv_iload_n hF.1 hF.2.1 dX3_street_68 rfl (lv_at hl 0 rfl) ?_
      refine lv_iconst (v := (-1)) hF.1 hF.2.1 dX3_street_69 (by decide) ?_
      refine lv_icmp_eq (tgt := 77) hF.1 hF.2.1 dX3_street_70 (by decide) (fun h => absurd h (by decide)) (fun _ => ?_)
      refine lv_iconst (v := nI 1) hF.1 hF.2.1 dX3_street_73 (by decide) ?_
      refine lv_goto (tgt := 78) hF.1 hF.2.1 dX3_street_74 (by decide) ?_
      refine g_vT (As := [.int (nI 1)]) (rest := []) hF (kX3_want l ω σ e0 v1 v2 (g, y, a, z, dr, pg, t) (pl + 1) pp tf rt ((false, 0, 0, 0, 0, 0)) b2 b3 (nI 1)) (lw_V q353 q355 qs2 q98 q356) 1 hdX3_want rfl rfl ⟨Nat.le_of_ble_eq_true rfl, Nat.le_of_ble_eq_true rfl⟩ (y_preV hK hH hS) rfl hl.1 rfl (Nat.le_of_ble_eq_true rfl) dX3_street_78 ⟨(by first | exact Nat.le_of_ble_eq_true rfl | (simp only [rmX3_street]; omega)), (by first | exact Nat.le_of_ble_eq_true rfl | (simp only [rmX3_street]; omega))⟩ hS (fun o ρ' H locs hq hH hS => ?_)
      rcases hq with ⟨w18, rfl, rfl⟩ | ⟨w18, hthr⟩
      · skip
        show W p l e rmX3_street s m args below meth c H locs 1 7 QQ (F0 m 81 ls [])
        refine lv_iload_n hF.1 hF.2.1 dX3_street_81 rfl (lv_at hl 0 rfl) ?_
        refine g_sNWr (As := [.int (nI 1)]) (rest := []) hF (kX0_made l ω σ e0 v1 v2 (g, y, a, z, dr, pg, t) (pl + 1) pp tf rt 0 0 0 0 0 (false, b2, b3) 1 (by omega)) (lw_meth q430) (xn_q428 hK.1.2) q92 q429 1 hdX0_made.2 rfl rfl ⟨Nat.le_of_ble_eq_true rfl, Nat.le_of_ble_eq_true rfl⟩ (y_preS hK hH hS) rfl hl.1 rfl (Nat.le_of_ble_eq_true rfl) dX3_street_82 ⟨(by first | exact Nat.le_of_ble_eq_true rfl | (simp only [rmX3_street]; omega)), (by first | exact Nat.le_of_ble_eq_true rfl | (simp only [rmX3_street]; omega))⟩ hS (fun cq H locs hH hS => ?_)
        refine lv_astore_n (lv' := [(2, .ref cq), (1, .int (nI 1)), (0, .ref σ.1)]) hF.1 hF.2.1 dX3_street_85 rfl hl (by decide) rfl (fun ls hl => ?_)
        refine lv_aload_n hF.1 hF.2.1 dX3_street_86 rfl (lv_at hl 0 rfl) ?_
        refine lv_aload_n hF.1 hF.2.1 dX3_street_87 rfl (lv_at hl 2 rfl) ?_
        refine lv_iconst (v := nI 0) hF.1 hF.2.1 dX3_street_88 (by decide) ?_
        refine lv_bipush (v := nI 7) hF.1 hF.2.1 dX3_street_89 (by decide) ?_
        refine g_vT (As := [.int (nI 0), .int (nI 7)]) (rest := [.ref cq]) hF (kX3_digit l ω σ e0 v1 v2 g y a z dr pg t (pl + 1) pp tf rt ((true, cq, 1, 0, 0, 0)) b2 b3 0 7 hp50 (by omega) (by omega) (by omega)) (lw_V q344 q346 qs0 q98 q347) 2 hdX3_digit rfl rfl ⟨Nat.le_of_ble_eq_true rfl, Nat.le_of_ble_eq_true rfl⟩ (y_preV hK hH hS) rfl hl.1 rfl (Nat.le_of_ble_eq_true rfl) dX3_street_91 ⟨(by first | exact Nat.le_of_ble_eq_true rfl | (simp only [rmX3_street]; omega)), (by first | exact Nat.le_of_ble_eq_true rfl | (simp only [rmX3_street]; omega))⟩ hS (fun o ρ' H locs hq hH hS => ?_)
        rcases hq with ⟨n20, g19, rfl, rfl⟩ | ⟨g19, hthr⟩
        · skip
          show W p l e rmX3_street s m args below meth c H locs 3 17 QQ (F0 m 94 ls [.int (nI n20), .ref cq])
          refine yp_one hF hK.1 hH hS q441 dX3_street_94 (fun H locs hH hS => ?_)
          refine lv_aload_n hF.1 hF.2.1 dX3_street_97 rfl (lv_at hl 2 rfl) ?_
          refine lv_aload_n hF.1 hF.2.1 dX3_street_98 rfl (lv_at hl 2 rfl) ?_
          refine g_vPi (As := []) (rest := [.ref σ.1]) hF (kX3_next l ω σ e0 v1 v2 g y a z dr pg t ((pl + 1) + 1) pp tf rt ((true, cq, 1, n20, 0, 0)) b2 b3 hp50 (by omega)) (lw_V q348 q350 qs1 q98 q351) 0 hdX3_next rfl rfl ⟨Nat.le_of_ble_eq_true rfl, Nat.le_of_ble_eq_true rfl⟩ (y_preV hK hH hS) rfl hl.1 rfl (Nat.le_of_ble_eq_true rfl) dX3_street_99 ⟨(by first | exact Nat.le_of_ble_eq_true rfl | (simp only [rmX3_street]; omega)), (by first | exact Nat.le_of_ble_eq_true rfl | (simp only [rmX3_street]; omega))⟩ (fun r e_r => ?_)
          subst e_r
          refine lv_bipush (v := nI 48) hF.1 hF.2.1 dX3_street_102 (by decide) ?_
          refine lv_isub hF.1 hF.2.1 dX3_street_104 ?_
          refine lv_aload_n hF.1 hF.2.1 dX3_street_105 rfl (lv_at hl 0 rfl) ?_
          refine yg_one hF hK.1 hH q441 dX3_street_106 ?_
          refine lv_icmp_eq (tgt := 116) hF.1 hF.2.1 dX3_street_109 (by decide) (fun c21 => ?_) (fun c21 => ?_)
          · skip
            refine lv_iconst (v := nI 0) hF.1 hF.2.1 dX3_street_116 (by decide) ?_
            refine g_vT (As := [.int (nI 0)]) (rest := []) hF (kX3_want l ω σ e0 v1 v2 (g, y, a, z, dr, pg, t) ((pl + 1) + 1) pp tf rt ((true, cq, 1, n20, 0, 0)) b2 b3 (nI 0)) (lw_V q353 q355 qs2 q98 q356) 1 hdX3_want rfl rfl ⟨Nat.le_of_ble_eq_true rfl, Nat.le_of_ble_eq_true rfl⟩ (y_preV hK hH hS) rfl hl.1 rfl (Nat.le_of_ble_eq_true rfl) dX3_street_117 ⟨(by first | exact Nat.le_of_ble_eq_true rfl | (simp only [rmX3_street]; omega)), (by first | exact Nat.le_of_ble_eq_true rfl | (simp only [rmX3_street]; omega))⟩ hS (fun o ρ' H locs hq hH hS => ?_)
            rcases hq with ⟨w22, rfl, rfl⟩ | ⟨w22, hthr⟩
            · exact absurd nI_0 w22
            · skip
              obtain ⟨qq, rfl, hso⟩ := hthr
              refine WT.widen (k := 7) (n := 48) (by first | exact Nat.le_of_ble_eq_true rfl | omega) (by first | exact Nat.le_of_ble_eq_true rfl | omega) ?_
              exact hE.2.2.2.2 _ _ qq _ ρ' _ _ (Or.inr ⟨_, Or.inr (Or.inr (Or.inl ⟨1, n20, ⟨by omega, t15⟩, g19, rfl, Or.inr c21⟩)), qq, rfl, hso⟩) hH hS
          · skip
            refine lv_iconst (v := nI 1) hF.1 hF.2.1 dX3_street_112 (by decide) ?_
            refine lv_goto (tgt := 117) hF.1 hF.2.1 dX3_street_113 (by decide) ?_
            refine g_vT (As := [.int (nI 1)]) (rest := []) hF (kX3_want l ω σ e0 v1 v2 (g, y, a, z, dr, pg, t) ((pl + 1) + 1) pp tf rt ((true, cq, 1, n20, 0, 0)) b2 b3 (nI 1)) (lw_V q353 q355 qs2 q98 q356) 1 hdX3_want rfl rfl ⟨Nat.le_of_ble_eq_true rfl, Nat.le_of_ble_eq_true rfl⟩ (y_preV hK hH hS) rfl hl.1 rfl (Nat.le_of_ble_eq_true rfl) dX3_street_117 ⟨(by first | exact Nat.le_of_ble_eq_true rfl | (simp only [rmX3_street]; omega)), (by first | exact Nat.le_of_ble_eq_true rfl | (simp only [rmX3_street]; omega))⟩ hS (fun o ρ' H locs hq hH hS => ?_)
            rcases hq with ⟨w23, rfl, rfl⟩ | ⟨w23, hthr⟩
            · skip
              show W p l e rmX3_street s m args below meth c H locs 4 24 QQ (F0 m 120 ls [])
              refine lv_aload_n hF.1 hF.2.1 dX3_street_120 rfl (lv_at hl 0 rfl) ?_
              refine lv_aload_n hF.1 hF.2.1 dX3_street_121 rfl (lv_at hl 2 rfl) ?_
              refine lv_iconst (v := nI 0) hF.1 hF.2.1 dX3_street_122 (by decide) ?_
              refine lv_bipush (v := nI 7) hF.1 hF.2.1 dX3_street_123 (by decide) ?_
              refine g_vT (As := [.int (nI 0), .int (nI 7)]) (rest := [.ref cq]) hF (kX3_digit l ω σ e0 v1 v2 g y a z dr pg t ((pl + 1) + 1) pp tf rt ((true, cq, 1, n20, 0, 0)) b2 b3 0 7 hp50 (by omega) (by omega) (by omega)) (lw_V q344 q346 qs0 q98 q347) 2 hdX3_digit rfl rfl ⟨Nat.le_of_ble_eq_true rfl, Nat.le_of_ble_eq_true rfl⟩ (y_preV hK hH hS) rfl hl.1 rfl (Nat.le_of_ble_eq_true rfl) dX3_street_125 ⟨(by first | exact Nat.le_of_ble_eq_true rfl | (simp only [rmX3_street]; omega)), (by first | exact Nat.le_of_ble_eq_true rfl | (simp only [rmX3_street]; omega))⟩ hS (fun o ρ' H locs hq hH hS => ?_)
              rcases hq with ⟨n25, g24, rfl, rfl⟩ | ⟨g24, hthr⟩
              · skip
                show W p l e rmX3_street s m args below meth c H locs 5 31 QQ (F0 m 128 ls [.int (nI n25), .ref cq])
                refine yp_other hF hK.1 hH hS q445 dX3_street_128 (fun H locs hH hS => ?_)
                have hab : ¬ n20 = n25 := fun q => c21 (by rw [q]; exact dgt_nx g24 (by omega))
                refine lv_aload_n hF.1 hF.2.1 dX3_street_131 rfl (lv_at hl 0 rfl) ?_
                refine lv_aload_n hF.1 hF.2.1 dX3_street_132 rfl (lv_at hl 2 rfl) ?_
                refine lv_iconst (v := nI 1) hF.1 hF.2.1 dX3_street_133 (by decide) ?_
                refine lv_bipush (v := nI 9) hF.1 hF.2.1 dX3_street_134 (by decide) ?_
                refine g_vT (As := [.int (nI 1), .int (nI 9)]) (rest := [.ref cq]) hF (kX3_digit l ω σ e0 v1 v2 g y a z dr pg t (((pl + 1) + 1) + 1) pp tf rt ((true, cq, 1, n20, n25, 0)) b2 b3 1 9 hp50 (by omega) (by omega) (by omega)) (lw_V q344 q346 qs0 q98 q347) 2 hdX3_digit rfl rfl ⟨Nat.le_of_ble_eq_true rfl, Nat.le_of_ble_eq_true rfl⟩ (y_preV hK hH hS) rfl hl.1 rfl (Nat.le_of_ble_eq_true rfl) dX3_street_136 ⟨(by first | exact Nat.le_of_ble_eq_true rfl | (simp only [rmX3_street]; omega)), (by first | exact Nat.le_of_ble_eq_true rfl | (simp only [rmX3_street]; omega))⟩ hS (fun o ρ' H locs hq hH hS => ?_)
                rcases hq with ⟨n27, g26, rfl, rfl⟩ | ⟨g26, hthr⟩
                · skip
                  show W p l e rmX3_street s m args below meth c H locs 6 38 QQ (F0 m 139 ls [.int (nI n27), .ref cq])
                  refine yp_length hF hK.1 hH hS q449 dX3_street_139 (fun H locs hH hS => ?_)
                  refine lv_aload_n hF.1 hF.2.1 dX3_street_142 rfl (lv_at hl 2 rfl) ?_
                  refine yg_streets hF hK.1 hH q326 dX3_street_143 ?_
                  refine lv_aload_n hF.1 hF.2.1 dX3_street_146 rfl (lv_at hl 0 rfl) ?_
                  refine y_add hF hK hte hH hS h8 (by omega) (by omega) hab (by omega) (by omega) ⟨Nat.le_of_ble_eq_true rfl, Nat.le_of_ble_eq_true rfl⟩ hl.1 (Nat.le_of_ble_eq_true rfl) dX3_street_147 ⟨(by first | exact Nat.le_of_ble_eq_true rfl | (simp only [rmX3_street]; omega)), (by first | exact Nat.le_of_ble_eq_true rfl | (simp only [rmX3_street]; omega))⟩ (fun ed H locs hH hS => ?_)
                  refine lv_pop hF.1 hF.2.1 dX3_street_150 rfl ?_
                  exact hE.2.1 _ _ ((((pl + 1) + 1) + 1) + 1, pp, tf, (tpush rt 1 n20 n25 n27 cq ed), (false, 0, 0, 0, 0, 0), (false, b2, b3)) _ _ rfl dX3_street_151 (Or.inl ⟨1, n20, n25, n27, cq, ed, ⟨⟨by omega, t15⟩, g19, g24, hab, g26⟩, rfl, rfl⟩) hH hS
                · skip
                  obtain ⟨qq, rfl, hso⟩ := hthr
                  refine WT.widen (k := 7) (n := 48) (by first | exact Nat.le_of_ble_eq_true rfl | omega) (by first | exact Nat.le_of_ble_eq_true rfl | omega) ?_
                  exact hE.2.2.2.2 _ _ qq _ ρ' _ _ (Or.inr ⟨_, Or.inr (Or.inr (Or.inr ⟨1, n20, _, ⟨by omega, t15⟩, g19, g24, hab, rfl, g26⟩)), qq, rfl, hso⟩) hH hS
              · skip
                obtain ⟨qq, rfl, hso⟩ := hthr
                refine WT.widen (k := 7) (n := 48) (by first | exact Nat.le_of_ble_eq_true rfl | omega) (by first | exact Nat.le_of_ble_eq_true rfl | omega) ?_
                exact hE.2.2.2.2 _ _ qq _ ρ' _ _ (Or.inr ⟨_, Or.inr (Or.inr (Or.inl ⟨1, n20, ⟨by omega, t15⟩, g19, rfl, Or.inl g24⟩)), qq, rfl, hso⟩) hH hS
            · exact absurd w23 (by decide)
        · skip
          obtain ⟨qq, rfl, hso⟩ := hthr
          refine WT.widen (k := 7) (n := 48) (by first | exact Nat.le_of_ble_eq_true rfl | omega) (by first | exact Nat.le_of_ble_eq_true rfl | omega) ?_
          exact hE.2.2.2.2 _ _ qq _ ρ' _ _ (Or.inr ⟨_, Or.inr (Or.inl ⟨1, ⟨by omega, t15⟩, rfl, g19⟩), qq, rfl, hso⟩) hH hS
      · exact absurd w18 (by decide)
    · skip
      refine lv_if_eq (tgt := 26) hF.1 hF.2.1 dX3_street_19 (by decide) (fun _ => ?_) (fun h => absurd (by decide) h)
      refine lv_aload_n hF.1 hF.2.1 dX3_street_26 rfl (lv_at hl 0 rfl) ?_
      refine lv_bipush (v := nI 113) hF.1 hF.2.1 dX3_street_27 (by decide) ?_
      refine g_vWi (As := [.int (nI 113)]) (rest := []) hF (kX3_takes l ω σ e0 v1 v2 g y a z dr pg t pl pp tf rt ((false, 0, 0, 0, 0, 0)) b2 b3 (nI 113) hp50 (by omega)) (lw_V q420 q422 qs4 q98 q423) 1 hdX3_takes rfl rfl ⟨Nat.le_of_ble_eq_true rfl, Nat.le_of_ble_eq_true rfl⟩ (y_preV hK hH hS) rfl hl.1 rfl (Nat.le_of_ble_eq_true rfl) dX3_street_29 ⟨(by first | exact Nat.le_of_ble_eq_true rfl | (simp only [rmX3_street]; omega)), (by first | exact Nat.le_of_ble_eq_true rfl | (simp only [rmX3_street]; omega))⟩ hS (fun r ρ' H locs hq hH hS => ?_)
      rcases hq with ⟨rfl, t29, rfl⟩ | ⟨rfl, t29, rfl⟩
      · skip
        refine lv_if_eq (tgt := 39) hF.1 hF.2.1 dX3_street_32 (by decide) (fun h => absurd h (by decide)) (fun _ => ?_)
        refine lv_iconst (v := nI 2) hF.1 hF.2.1 dX3_street_35 (by decide) ?_
        refine lv_goto (tgt := 66) hF.1 hF.2.1 dX3_street_36 (by decide) ?_
        refine lv_istore_n (lv' := [(1, .int (nI 2)), (0, .ref σ.1)]) hF.1 hF.2.1 dX3_street_66 rfl hl (by decide) rfl (fun ls hl => ?_)
        refine lv_aload_n hF.1 hF.2.1 dX3_street_67 rfl (lv_at hl 1 rfl) ?_
        refine lv_iload_n hF.1 hF.2.1 dX3_street_68 rfl (lv_at hl 0 rfl) ?_
        refine lv_iconst (v := (-1)) hF.1 hF.2.1 dX3_street_69 (by decide) ?_
        refine lv_icmp_eq (tgt := 77) hF.1 hF.2.1 dX3_street_70 (by decide) (fun h => absurd h (by decide)) (fun _ => ?_)
        refine lv_iconst (v := nI 1) hF.1 hF.2.1 dX3_street_73 (by decide) ?_
        refine lv_goto (tgt := 78) hF.1 hF.2.1 dX3_street_74 (by decide) ?_
        refine g_vT (As := [.int (nI 1)]) (rest := []) hF (kX3_want l ω σ e0 v1 v2 (g, y, a, z, dr, pg, t) (pl + 1) pp tf rt ((false, 0, 0, 0, 0, 0)) b2 b3 (nI 1)) (lw_V q353 q355 qs2 q98 q356) 1 hdX3_want rfl rfl ⟨Nat.le_of_ble_eq_true rfl, Nat.le_of_ble_eq_true rfl⟩ (y_preV hK hH hS) rfl hl.1 rfl (Nat.le_of_ble_eq_true rfl) dX3_street_78 ⟨(by first | exact Nat.le_of_ble_eq_true rfl | (simp only [rmX3_street]; omega)), (by first | exact Nat.le_of_ble_eq_true rfl | (simp only [rmX3_street]; omega))⟩ hS (fun o ρ' H locs hq hH hS => ?_)
        rcases hq with ⟨w32, rfl, rfl⟩ | ⟨w32, hthr⟩
        · skip
          show W p l e rmX3_street s m args below meth c H locs 1 7 QQ (F0 m 81 ls [])
          refine lv_iload_n hF.1 hF.2.1 dX3_street_81 rfl (lv_at hl 0 rfl) ?_
          refine g_sNWr (As := [.int (nI 2)]) (rest := []) hF (kX0_made l ω σ e0 v1 v2 (g, y, a, z, dr, pg, t) (pl + 1) pp tf rt 0 0 0 0 0 (false, b2, b3) 2 (by omega)) (lw_meth q430) (xn_q428 hK.1.2) q92 q429 1 hdX0_made.2 rfl rfl ⟨Nat.le_of_ble_eq_true rfl, Nat.le_of_ble_eq_true rfl⟩ (y_preS hK hH hS) rfl hl.1 rfl (Nat.le_of_ble_eq_true rfl) dX3_street_82 ⟨(by first | exact Nat.le_of_ble_eq_true rfl | (simp only [rmX3_street]; omega)), (by first | exact Nat.le_of_ble_eq_true rfl | (simp only [rmX3_street]; omega))⟩ hS (fun cq H locs hH hS => ?_)
          refine lv_astore_n (lv' := [(2, .ref cq), (1, .int (nI 2)), (0, .ref σ.1)]) hF.1 hF.2.1 dX3_street_85 rfl hl (by decide) rfl (fun ls hl => ?_)
          refine lv_aload_n hF.1 hF.2.1 dX3_street_86 rfl (lv_at hl 0 rfl) ?_
          refine lv_aload_n hF.1 hF.2.1 dX3_street_87 rfl (lv_at hl 2 rfl) ?_
          refine lv_iconst (v := nI 0) hF.1 hF.2.1 dX3_street_88 (by decide) ?_
          refine lv_bipush (v := nI 7) hF.1 hF.2.1 dX3_street_89 (by decide) ?_
          refine g_vT (As := [.int (nI 0), .int (nI 7)]) (rest := [.ref cq]) hF (kX3_digit l ω σ e0 v1 v2 g y a z dr pg t (pl + 1) pp tf rt ((true, cq, 2, 0, 0, 0)) b2 b3 0 7 hp50 (by omega) (by omega) (by omega)) (lw_V q344 q346 qs0 q98 q347) 2 hdX3_digit rfl rfl ⟨Nat.le_of_ble_eq_true rfl, Nat.le_of_ble_eq_true rfl⟩ (y_preV hK hH hS) rfl hl.1 rfl (Nat.le_of_ble_eq_true rfl) dX3_street_91 ⟨(by first | exact Nat.le_of_ble_eq_true rfl | (simp only [rmX3_street]; omega)), (by first | exact Nat.le_of_ble_eq_true rfl | (simp only [rmX3_street]; omega))⟩ hS (fun o ρ' H locs hq hH hS => ?_)
          rcases hq with ⟨n34, g33, rfl, rfl⟩ | ⟨g33, hthr⟩
          · skip
            show W p l e rmX3_street s m args below meth c H locs 3 17 QQ (F0 m 94 ls [.int (nI n34), .ref cq])
            refine yp_one hF hK.1 hH hS q441 dX3_street_94 (fun H locs hH hS => ?_)
            refine lv_aload_n hF.1 hF.2.1 dX3_street_97 rfl (lv_at hl 2 rfl) ?_
            refine lv_aload_n hF.1 hF.2.1 dX3_street_98 rfl (lv_at hl 2 rfl) ?_
            refine g_vPi (As := []) (rest := [.ref σ.1]) hF (kX3_next l ω σ e0 v1 v2 g y a z dr pg t ((pl + 1) + 1) pp tf rt ((true, cq, 2, n34, 0, 0)) b2 b3 hp50 (by omega)) (lw_V q348 q350 qs1 q98 q351) 0 hdX3_next rfl rfl ⟨Nat.le_of_ble_eq_true rfl, Nat.le_of_ble_eq_true rfl⟩ (y_preV hK hH hS) rfl hl.1 rfl (Nat.le_of_ble_eq_true rfl) dX3_street_99 ⟨(by first | exact Nat.le_of_ble_eq_true rfl | (simp only [rmX3_street]; omega)), (by first | exact Nat.le_of_ble_eq_true rfl | (simp only [rmX3_street]; omega))⟩ (fun r e_r => ?_)
            subst e_r
            refine lv_bipush (v := nI 48) hF.1 hF.2.1 dX3_street_102 (by decide) ?_
            refine lv_isub hF.1 hF.2.1 dX3_street_104 ?_
            refine lv_aload_n hF.1 hF.2.1 dX3_street_105 rfl (lv_at hl 0 rfl) ?_
            refine yg_one hF hK.1 hH q441 dX3_street_106 ?_
            refine lv_icmp_eq (tgt := 116) hF.1 hF.2.1 dX3_street_109 (by decide) (fun c35 => ?_) (fun c35 => ?_)
            · skip
              refine lv_iconst (v := nI 0) hF.1 hF.2.1 dX3_street_116 (by decide) ?_
              refine g_vT (As := [.int (nI 0)]) (rest := []) hF (kX3_want l ω σ e0 v1 v2 (g, y, a, z, dr, pg, t) ((pl + 1) + 1) pp tf rt ((true, cq, 2, n34, 0, 0)) b2 b3 (nI 0)) (lw_V q353 q355 qs2 q98 q356) 1 hdX3_want rfl rfl ⟨Nat.le_of_ble_eq_true rfl, Nat.le_of_ble_eq_true rfl⟩ (y_preV hK hH hS) rfl hl.1 rfl (Nat.le_of_ble_eq_true rfl) dX3_street_117 ⟨(by first | exact Nat.le_of_ble_eq_true rfl | (simp only [rmX3_street]; omega)), (by first | exact Nat.le_of_ble_eq_true rfl | (simp only [rmX3_street]; omega))⟩ hS (fun o ρ' H locs hq hH hS => ?_)
              rcases hq with ⟨w36, rfl, rfl⟩ | ⟨w36, hthr⟩
              · exact absurd nI_0 w36
              · skip
                obtain ⟨qq, rfl, hso⟩ := hthr
                refine WT.widen (k := 7) (n := 48) (by first | exact Nat.le_of_ble_eq_true rfl | omega) (by first | exact Nat.le_of_ble_eq_true rfl | omega) ?_
                exact hE.2.2.2.2 _ _ qq _ ρ' _ _ (Or.inr ⟨_, Or.inr (Or.inr (Or.inl ⟨2, n34, ⟨by omega, t29⟩, g33, rfl, Or.inr c35⟩)), qq, rfl, hso⟩) hH hS
            · skip
              refine lv_iconst (v := nI 1) hF.1 hF.2.1 dX3_street_112 (by decide) ?_
              refine lv_goto (tgt := 117) hF.1 hF.2.1 dX3_street_113 (by decide) ?_
              refine g_vT (As := [.int (nI 1)]) (rest := []) hF (kX3_want l ω σ e0 v1 v2 (g, y, a, z, dr, pg, t) ((pl + 1) + 1) pp tf rt ((true, cq, 2, n34, 0, 0)) b2 b3 (nI 1)) (lw_V q353 q355 qs2 q98 q356) 1 hdX3_want rfl rfl ⟨Nat.le_of_ble_eq_true rfl, Nat.le_of_ble_eq_true rfl⟩ (y_preV hK hH hS) rfl hl.1 rfl (Nat.le_of_ble_eq_true rfl) dX3_street_117 ⟨(by first | exact Nat.le_of_ble_eq_true rfl | (simp only [rmX3_street]; omega)), (by first | exact Nat.le_of_ble_eq_true rfl | (simp only [rmX3_street]; omega))⟩ hS (fun o ρ' H locs hq hH hS => ?_)
              rcases hq with ⟨w37, rfl, rfl⟩ | ⟨w37, hthr⟩
              · skip
                show W p l e rmX3_street s m args below meth c H locs 4 24 QQ (F0 m 120 ls [])
                refine lv_aload_n hF.1 hF.2.1 dX3_street_120 rfl (lv_at hl 0 rfl) ?_
                refine lv_aload_n hF.1 hF.2.1 dX3_street_121 rfl (lv_at hl 2 rfl) ?_
                refine lv_iconst (v := nI 0) hF.1 hF.2.1 dX3_street_122 (by decide) ?_
                refine lv_bipush (v := nI 7) hF.1 hF.2.1 dX3_street_123 (by decide) ?_
                refine g_vT (As := [.int (nI 0), .int (nI 7)]) (rest := [.ref cq]) hF (kX3_digit l ω σ e0 v1 v2 g y a z dr pg t ((pl + 1) + 1) pp tf rt ((true, cq, 2, n34, 0, 0)) b2 b3 0 7 hp50 (by omega) (by omega) (by omega)) (lw_V q344 q346 qs0 q98 q347) 2 hdX3_digit rfl rfl ⟨Nat.le_of_ble_eq_true rfl, Nat.le_of_ble_eq_true rfl⟩ (y_preV hK hH hS) rfl hl.1 rfl (Nat.le_of_ble_eq_true rfl) dX3_street_125 ⟨(by first | exact Nat.le_of_ble_eq_true rfl | (simp only [rmX3_street]; omega)), (by first | exact Nat.le_of_ble_eq_true rfl | (simp only [rmX3_street]; omega))⟩ hS (fun o ρ' H locs hq hH hS => ?_)
                rcases hq with ⟨n39, g38, rfl, rfl⟩ | ⟨g38, hthr⟩
                · skip
                  show W p l e rmX3_street s m args below meth c H locs 5 31 QQ (F0 m 128 ls [.int (nI n39), .ref cq])
                  refine yp_other hF hK.1 hH hS q445 dX3_street_128 (fun H locs hH hS => ?_)
                  have hab : ¬ n34 = n39 := fun q => c35 (by rw [q]; exact dgt_nx g38 (by omega))
                  refine lv_aload_n hF.1 hF.2.1 dX3_street_131 rfl (lv_at hl 0 rfl) ?_
                  refine lv_aload_n hF.1 hF.2.1 dX3_street_132 rfl (lv_at hl 2 rfl) ?_
                  refine lv_iconst (v := nI 1) hF.1 hF.2.1 dX3_street_133 (by decide) ?_
                  refine lv_bipush (v := nI 9) hF.1 hF.2.1 dX3_street_134 (by decide) ?_
                  refine g_vT (As := [.int (nI 1), .int (nI 9)]) (rest := [.ref cq]) hF (kX3_digit l ω σ e0 v1 v2 g y a z dr pg t (((pl + 1) + 1) + 1) pp tf rt ((true, cq, 2, n34, n39, 0)) b2 b3 1 9 hp50 (by omega) (by omega) (by omega)) (lw_V q344 q346 qs0 q98 q347) 2 hdX3_digit rfl rfl ⟨Nat.le_of_ble_eq_true rfl, Nat.le_of_ble_eq_true rfl⟩ (y_preV hK hH hS) rfl hl.1 rfl (Nat.le_of_ble_eq_true rfl) dX3_street_136 ⟨(by first | exact Nat.le_of_ble_eq_true rfl | (simp only [rmX3_street]; omega)), (by first | exact Nat.le_of_ble_eq_true rfl | (simp only [rmX3_street]; omega))⟩ hS (fun o ρ' H locs hq hH hS => ?_)
                  rcases hq with ⟨n41, g40, rfl, rfl⟩ | ⟨g40, hthr⟩
                  · skip
                    show W p l e rmX3_street s m args below meth c H locs 6 38 QQ (F0 m 139 ls [.int (nI n41), .ref cq])
                    refine yp_length hF hK.1 hH hS q449 dX3_street_139 (fun H locs hH hS => ?_)
                    refine lv_aload_n hF.1 hF.2.1 dX3_street_142 rfl (lv_at hl 2 rfl) ?_
                    refine yg_streets hF hK.1 hH q326 dX3_street_143 ?_
                    refine lv_aload_n hF.1 hF.2.1 dX3_street_146 rfl (lv_at hl 0 rfl) ?_
                    refine y_add hF hK hte hH hS h8 (by omega) (by omega) hab (by omega) (by omega) ⟨Nat.le_of_ble_eq_true rfl, Nat.le_of_ble_eq_true rfl⟩ hl.1 (Nat.le_of_ble_eq_true rfl) dX3_street_147 ⟨(by first | exact Nat.le_of_ble_eq_true rfl | (simp only [rmX3_street]; omega)), (by first | exact Nat.le_of_ble_eq_true rfl | (simp only [rmX3_street]; omega))⟩ (fun ed H locs hH hS => ?_)
                    refine lv_pop hF.1 hF.2.1 dX3_street_150 rfl ?_
                    exact hE.2.1 _ _ ((((pl + 1) + 1) + 1) + 1, pp, tf, (tpush rt 2 n34 n39 n41 cq ed), (false, 0, 0, 0, 0, 0), (false, b2, b3)) _ _ rfl dX3_street_151 (Or.inl ⟨2, n34, n39, n41, cq, ed, ⟨⟨by omega, t29⟩, g33, g38, hab, g40⟩, rfl, rfl⟩) hH hS
                  · skip
                    obtain ⟨qq, rfl, hso⟩ := hthr
                    refine WT.widen (k := 7) (n := 48) (by first | exact Nat.le_of_ble_eq_true rfl | omega) (by first | exact Nat.le_of_ble_eq_true rfl | omega) ?_
                    exact hE.2.2.2.2 _ _ qq _ ρ' _ _ (Or.inr ⟨_, Or.inr (Or.inr (Or.inr ⟨2, n34, _, ⟨by omega, t29⟩, g33, g38, hab, rfl, g40⟩)), qq, rfl, hso⟩) hH hS
                · skip
                  obtain ⟨qq, rfl, hso⟩ := hthr
                  refine WT.widen (k := 7) (n := 48) (by first | exact Nat.le_of_ble_eq_true rfl | omega) (by first | exact Nat.le_of_ble_eq_true rfl | omega) ?_
                  exact hE.2.2.2.2 _ _ qq _ ρ' _ _ (Or.inr ⟨_, Or.inr (Or.inr (Or.inl ⟨2, n34, ⟨by omega, t29⟩, g33, rfl, Or.inl g38⟩)), qq, rfl, hso⟩) hH hS
              · exact absurd w37 (by decide)
          · skip
            obtain ⟨qq, rfl, hso⟩ := hthr
            refine WT.widen (k := 7) (n := 48) (by first | exact Nat.le_of_ble_eq_true rfl | omega) (by first | exact Nat.le_of_ble_eq_true rfl | omega) ?_
            exact hE.2.2.2.2 _ _ qq _ ρ' _ _ (Or.inr ⟨_, Or.inr (Or.inl ⟨2, ⟨by omega, t29⟩, rfl, g33⟩), qq, rfl, hso⟩) hH hS
        · exact absurd w32 (by decide)
      · skip
        refine lv_if_eq (tgt := 39) hF.1 hF.2.1 dX3_street_32 (by decide) (fun _ => ?_) (fun h => absurd (by decide) h)
        refine lv_aload_n hF.1 hF.2.1 dX3_street_39 rfl (lv_at hl 0 rfl) ?_
        refine lv_bipush (v := nI 106) hF.1 hF.2.1 dX3_street_40 (by decide) ?_
        refine g_vWi (As := [.int (nI 106)]) (rest := []) hF (kX3_takes l ω σ e0 v1 v2 g y a z dr pg t pl pp tf rt ((false, 0, 0, 0, 0, 0)) b2 b3 (nI 106) hp50 (by omega)) (lw_V q420 q422 qs4 q98 q423) 1 hdX3_takes rfl rfl ⟨Nat.le_of_ble_eq_true rfl, Nat.le_of_ble_eq_true rfl⟩ (y_preV hK hH hS) rfl hl.1 rfl (Nat.le_of_ble_eq_true rfl) dX3_street_42 ⟨(by first | exact Nat.le_of_ble_eq_true rfl | (simp only [rmX3_street]; omega)), (by first | exact Nat.le_of_ble_eq_true rfl | (simp only [rmX3_street]; omega))⟩ hS (fun r ρ' H locs hq hH hS => ?_)
        rcases hq with ⟨rfl, t43, rfl⟩ | ⟨rfl, t43, rfl⟩
        · skip
          refine lv_if_eq (tgt := 52) hF.1 hF.2.1 dX3_street_45 (by decide) (fun h => absurd h (by decide)) (fun _ => ?_)
          refine lv_iconst (v := nI 3) hF.1 hF.2.1 dX3_street_48 (by decide) ?_
          refine lv_goto (tgt := 66) hF.1 hF.2.1 dX3_street_49 (by decide) ?_
          refine lv_istore_n (lv' := [(1, .int (nI 3)), (0, .ref σ.1)]) hF.1 hF.2.1 dX3_street_66 rfl hl (by decide) rfl (fun ls hl => ?_)
          refine lv_aload_n hF.1 hF.2.1 dX3_street_67 rfl (lv_at hl 1 rfl) ?_
          refine lv_iload_n hF.1 hF.2.1 dX3_street_68 rfl (lv_at hl 0 rfl) ?_
          refine lv_iconst (v := (-1)) hF.1 hF.2.1 dX3_street_69 (by decide) ?_
          refine lv_icmp_eq (tgt := 77) hF.1 hF.2.1 dX3_street_70 (by decide) (fun h => absurd h (by decide)) (fun _ => ?_)
          refine lv_iconst (v := nI 1) hF.1 hF.2.1 dX3_street_73 (by decide) ?_
          refine lv_goto (tgt := 78) hF.1 hF.2.1 dX3_street_74 (by decide) ?_
          refine g_vT (As := [.int (nI 1)]) (rest := []) hF (kX3_want l ω σ e0 v1 v2 (g, y, a, z, dr, pg, t) (pl + 1) pp tf rt ((false, 0, 0, 0, 0, 0)) b2 b3 (nI 1)) (lw_V q353 q355 qs2 q98 q356) 1 hdX3_want rfl rfl ⟨Nat.le_of_ble_eq_true rfl, Nat.le_of_ble_eq_true rfl⟩ (y_preV hK hH hS) rfl hl.1 rfl (Nat.le_of_ble_eq_true rfl) dX3_street_78 ⟨(by first | exact Nat.le_of_ble_eq_true rfl | (simp only [rmX3_street]; omega)), (by first | exact Nat.le_of_ble_eq_true rfl | (simp only [rmX3_street]; omega))⟩ hS (fun o ρ' H locs hq hH hS => ?_)
          rcases hq with ⟨w46, rfl, rfl⟩ | ⟨w46, hthr⟩
          · skip
            show W p l e rmX3_street s m args below meth c H locs 1 7 QQ (F0 m 81 ls [])
            refine lv_iload_n hF.1 hF.2.1 dX3_street_81 rfl (lv_at hl 0 rfl) ?_
            refine g_sNWr (As := [.int (nI 3)]) (rest := []) hF (kX0_made l ω σ e0 v1 v2 (g, y, a, z, dr, pg, t) (pl + 1) pp tf rt 0 0 0 0 0 (false, b2, b3) 3 (by omega)) (lw_meth q430) (xn_q428 hK.1.2) q92 q429 1 hdX0_made.2 rfl rfl ⟨Nat.le_of_ble_eq_true rfl, Nat.le_of_ble_eq_true rfl⟩ (y_preS hK hH hS) rfl hl.1 rfl (Nat.le_of_ble_eq_true rfl) dX3_street_82 ⟨(by first | exact Nat.le_of_ble_eq_true rfl | (simp only [rmX3_street]; omega)), (by first | exact Nat.le_of_ble_eq_true rfl | (simp only [rmX3_street]; omega))⟩ hS (fun cq H locs hH hS => ?_)
            refine lv_astore_n (lv' := [(2, .ref cq), (1, .int (nI 3)), (0, .ref σ.1)]) hF.1 hF.2.1 dX3_street_85 rfl hl (by decide) rfl (fun ls hl => ?_)
            refine lv_aload_n hF.1 hF.2.1 dX3_street_86 rfl (lv_at hl 0 rfl) ?_
            refine lv_aload_n hF.1 hF.2.1 dX3_street_87 rfl (lv_at hl 2 rfl) ?_
            refine lv_iconst (v := nI 0) hF.1 hF.2.1 dX3_street_88 (by decide) ?_
            refine lv_bipush (v := nI 7) hF.1 hF.2.1 dX3_street_89 (by decide) ?_
            refine g_vT (As := [.int (nI 0), .int (nI 7)]) (rest := [.ref cq]) hF (kX3_digit l ω σ e0 v1 v2 g y a z dr pg t (pl + 1) pp tf rt ((true, cq, 3, 0, 0, 0)) b2 b3 0 7 hp50 (by omega) (by omega) (by omega)) (lw_V q344 q346 qs0 q98 q347) 2 hdX3_digit rfl rfl ⟨Nat.le_of_ble_eq_true rfl, Nat.le_of_ble_eq_true rfl⟩ (y_preV hK hH hS) rfl hl.1 rfl (Nat.le_of_ble_eq_true rfl) dX3_street_91 ⟨(by first | exact Nat.le_of_ble_eq_true rfl | (simp only [rmX3_street]; omega)), (by first | exact Nat.le_of_ble_eq_true rfl | (simp only [rmX3_street]; omega))⟩ hS (fun o ρ' H locs hq hH hS => ?_)
            rcases hq with ⟨n48, g47, rfl, rfl⟩ | ⟨g47, hthr⟩
            · skip
              show W p l e rmX3_street s m args below meth c H locs 3 17 QQ (F0 m 94 ls [.int (nI n48), .ref cq])
              refine yp_one hF hK.1 hH hS q441 dX3_street_94 (fun H locs hH hS => ?_)
              refine lv_aload_n hF.1 hF.2.1 dX3_street_97 rfl (lv_at hl 2 rfl) ?_
              refine lv_aload_n hF.1 hF.2.1 dX3_street_98 rfl (lv_at hl 2 rfl) ?_
              refine g_vPi (As := []) (rest := [.ref σ.1]) hF (kX3_next l ω σ e0 v1 v2 g y a z dr pg t ((pl + 1) + 1) pp tf rt ((true, cq, 3, n48, 0, 0)) b2 b3 hp50 (by omega)) (lw_V q348 q350 qs1 q98 q351) 0 hdX3_next rfl rfl ⟨Nat.le_of_ble_eq_true rfl, Nat.le_of_ble_eq_true rfl⟩ (y_preV hK hH hS) rfl hl.1 rfl (Nat.le_of_ble_eq_true rfl) dX3_street_99 ⟨(by first | exact Nat.le_of_ble_eq_true rfl | (simp only [rmX3_street]; omega)), (by first | exact Nat.le_of_ble_eq_true rfl | (simp only [rmX3_street]; omega))⟩ (fun r e_r => ?_)
              subst e_r
              refine lv_bipush (v := nI 48) hF.1 hF.2.1 dX3_street_102 (by decide) ?_
              refine lv_isub hF.1 hF.2.1 dX3_street_104 ?_
              refine lv_aload_n hF.1 hF.2.1 dX3_street_105 rfl (lv_at hl 0 rfl) ?_
              refine yg_one hF hK.1 hH q441 dX3_street_106 ?_
              refine lv_icmp_eq (tgt := 116) hF.1 hF.2.1 dX3_street_109 (by decide) (fun c49 => ?_) (fun c49 => ?_)
              · skip
                refine lv_iconst (v := nI 0) hF.1 hF.2.1 dX3_street_116 (by decide) ?_
                refine g_vT (As := [.int (nI 0)]) (rest := []) hF (kX3_want l ω σ e0 v1 v2 (g, y, a, z, dr, pg, t) ((pl + 1) + 1) pp tf rt ((true, cq, 3, n48, 0, 0)) b2 b3 (nI 0)) (lw_V q353 q355 qs2 q98 q356) 1 hdX3_want rfl rfl ⟨Nat.le_of_ble_eq_true rfl, Nat.le_of_ble_eq_true rfl⟩ (y_preV hK hH hS) rfl hl.1 rfl (Nat.le_of_ble_eq_true rfl) dX3_street_117 ⟨(by first | exact Nat.le_of_ble_eq_true rfl | (simp only [rmX3_street]; omega)), (by first | exact Nat.le_of_ble_eq_true rfl | (simp only [rmX3_street]; omega))⟩ hS (fun o ρ' H locs hq hH hS => ?_)
                rcases hq with ⟨w50, rfl, rfl⟩ | ⟨w50, hthr⟩
                · exact absurd nI_0 w50
                · skip
                  obtain ⟨qq, rfl, hso⟩ := hthr
                  refine WT.widen (k := 7) (n := 48) (by first | exact Nat.le_of_ble_eq_true rfl | omega) (by first | exact Nat.le_of_ble_eq_true rfl | omega) ?_
                  exact hE.2.2.2.2 _ _ qq _ ρ' _ _ (Or.inr ⟨_, Or.inr (Or.inr (Or.inl ⟨3, n48, ⟨by omega, t43⟩, g47, rfl, Or.inr c49⟩)), qq, rfl, hso⟩) hH hS
              · skip
                refine lv_iconst (v := nI 1) hF.1 hF.2.1 dX3_street_112 (by decide) ?_
                refine lv_goto (tgt := 117) hF.1 hF.2.1 dX3_street_113 (by decide) ?_
                refine g_vT (As := [.int (nI 1)]) (rest := []) hF (kX3_want l ω σ e0 v1 v2 (g, y, a, z, dr, pg, t) ((pl + 1) + 1) pp tf rt ((true, cq, 3, n48, 0, 0)) b2 b3 (nI 1)) (lw_V q353 q355 qs2 q98 q356) 1 hdX3_want rfl rfl ⟨Nat.le_of_ble_eq_true rfl, Nat.le_of_ble_eq_true rfl⟩ (y_preV hK hH hS) rfl hl.1 rfl (Nat.le_of_ble_eq_true rfl) dX3_street_117 ⟨(by first | exact Nat.le_of_ble_eq_true rfl | (simp only [rmX3_street]; omega)), (by first | exact Nat.le_of_ble_eq_true rfl | (simp only [rmX3_street]; omega))⟩ hS (fun o ρ' H locs hq hH hS => ?_)
                rcases hq with ⟨w51, rfl, rfl⟩ | ⟨w51, hthr⟩
                · skip
                  show W p l e rmX3_street s m args below meth c H locs 4 24 QQ (F0 m 120 ls [])
                  refine lv_aload_n hF.1 hF.2.1 dX3_street_120 rfl (lv_at hl 0 rfl) ?_
                  refine lv_aload_n hF.1 hF.2.1 dX3_street_121 rfl (lv_at hl 2 rfl) ?_
                  refine lv_iconst (v := nI 0) hF.1 hF.2.1 dX3_street_122 (by decide) ?_
                  refine lv_bipush (v := nI 7) hF.1 hF.2.1 dX3_street_123 (by decide) ?_
                  refine g_vT (As := [.int (nI 0), .int (nI 7)]) (rest := [.ref cq]) hF (kX3_digit l ω σ e0 v1 v2 g y a z dr pg t ((pl + 1) + 1) pp tf rt ((true, cq, 3, n48, 0, 0)) b2 b3 0 7 hp50 (by omega) (by omega) (by omega)) (lw_V q344 q346 qs0 q98 q347) 2 hdX3_digit rfl rfl ⟨Nat.le_of_ble_eq_true rfl, Nat.le_of_ble_eq_true rfl⟩ (y_preV hK hH hS) rfl hl.1 rfl (Nat.le_of_ble_eq_true rfl) dX3_street_125 ⟨(by first | exact Nat.le_of_ble_eq_true rfl | (simp only [rmX3_street]; omega)), (by first | exact Nat.le_of_ble_eq_true rfl | (simp only [rmX3_street]; omega))⟩ hS (fun o ρ' H locs hq hH hS => ?_)
                  rcases hq with ⟨n53, g52, rfl, rfl⟩ | ⟨g52, hthr⟩
                  · skip
                    show W p l e rmX3_street s m args below meth c H locs 5 31 QQ (F0 m 128 ls [.int (nI n53), .ref cq])
                    refine yp_other hF hK.1 hH hS q445 dX3_street_128 (fun H locs hH hS => ?_)
                    have hab : ¬ n48 = n53 := fun q => c49 (by rw [q]; exact dgt_nx g52 (by omega))
                    refine lv_aload_n hF.1 hF.2.1 dX3_street_131 rfl (lv_at hl 0 rfl) ?_
                    refine lv_aload_n hF.1 hF.2.1 dX3_street_132 rfl (lv_at hl 2 rfl) ?_
                    refine lv_iconst (v := nI 1) hF.1 hF.2.1 dX3_street_133 (by decide) ?_
                    refine lv_bipush (v := nI 9) hF.1 hF.2.1 dX3_street_134 (by decide) ?_
                    refine g_vT (As := [.int (nI 1), .int (nI 9)]) (rest := [.ref cq]) hF (kX3_digit l ω σ e0 v1 v2 g y a z dr pg t (((pl + 1) + 1) + 1) pp tf rt ((true, cq, 3, n48, n53, 0)) b2 b3 1 9 hp50 (by omega) (by omega) (by omega)) (lw_V q344 q346 qs0 q98 q347) 2 hdX3_digit rfl rfl ⟨Nat.le_of_ble_eq_true rfl, Nat.le_of_ble_eq_true rfl⟩ (y_preV hK hH hS) rfl hl.1 rfl (Nat.le_of_ble_eq_true rfl) dX3_street_136 ⟨(by first | exact Nat.le_of_ble_eq_true rfl | (simp only [rmX3_street]; omega)), (by first | exact Nat.le_of_ble_eq_true rfl | (simp only [rmX3_street]; omega))⟩ hS (fun o ρ' H locs hq hH hS => ?_)
                    rcases hq with ⟨n55, g54, rfl, rfl⟩ | ⟨g54, hthr⟩
                    · skip
                      show W p l e rmX3_street s m args below meth c H locs 6 38 QQ (F0 m 139 ls [.int (nI n55), .ref cq])
                      refine yp_length hF hK.1 hH hS q449 dX3_street_139 (fun H locs hH hS => ?_)
                      refine lv_aload_n hF.1 hF.2.1 dX3_street_142 rfl (lv_at hl 2 rfl) ?_
                      refine yg_streets hF hK.1 hH q326 dX3_street_143 ?_
                      refine lv_aload_n hF.1 hF.2.1 dX3_street_146 rfl (lv_at hl 0 rfl) ?_
                      refine y_add hF hK hte hH hS h8 (by omega) (by omega) hab (by omega) (by omega) ⟨Nat.le_of_ble_eq_true rfl, Nat.le_of_ble_eq_true rfl⟩ hl.1 (Nat.le_of_ble_eq_true rfl) dX3_street_147 ⟨(by first | exact Nat.le_of_ble_eq_true rfl | (simp only [rmX3_street]; omega)), (by first | exact Nat.le_of_ble_eq_true rfl | (simp only [rmX3_street]; omega))⟩ (fun ed H locs hH hS => ?_)
                      refine lv_pop hF.1 hF.2.1 dX3_street_150 rfl ?_
                      exact hE.2.1 _ _ ((((pl + 1) + 1) + 1) + 1, pp, tf, (tpush rt 3 n48 n53 n55 cq ed), (false, 0, 0, 0, 0, 0), (false, b2, b3)) _ _ rfl dX3_street_151 (Or.inl ⟨3, n48, n53, n55, cq, ed, ⟨⟨by omega, t43⟩, g47, g52, hab, g54⟩, rfl, rfl⟩) hH hS
                    · skip
                      obtain ⟨qq, rfl, hso⟩ := hthr
                      refine WT.widen (k := 7) (n := 48) (by first | exact Nat.le_of_ble_eq_true rfl | omega) (by first | exact Nat.le_of_ble_eq_true rfl | omega) ?_
                      exact hE.2.2.2.2 _ _ qq _ ρ' _ _ (Or.inr ⟨_, Or.inr (Or.inr (Or.inr ⟨3, n48, _, ⟨by omega, t43⟩, g47, g52, hab, rfl, g54⟩)), qq, rfl, hso⟩) hH hS
                  · skip
                    obtain ⟨qq, rfl, hso⟩ := hthr
                    refine WT.widen (k := 7) (n := 48) (by first | exact Nat.le_of_ble_eq_true rfl | omega) (by first | exact Nat.le_of_ble_eq_true rfl | omega) ?_
                    exact hE.2.2.2.2 _ _ qq _ ρ' _ _ (Or.inr ⟨_, Or.inr (Or.inr (Or.inl ⟨3, n48, ⟨by omega, t43⟩, g47, rfl, Or.inl g52⟩)), qq, rfl, hso⟩) hH hS
                · exact absurd w51 (by decide)
            · skip
              obtain ⟨qq, rfl, hso⟩ := hthr
              refine WT.widen (k := 7) (n := 48) (by first | exact Nat.le_of_ble_eq_true rfl | omega) (by first | exact Nat.le_of_ble_eq_true rfl | omega) ?_
              exact hE.2.2.2.2 _ _ qq _ ρ' _ _ (Or.inr ⟨_, Or.inr (Or.inl ⟨3, ⟨by omega, t43⟩, rfl, g47⟩), qq, rfl, hso⟩) hH hS
          · exact absurd w46 (by decide)
        · skip
          refine lv_if_eq (tgt := 52) hF.1 hF.2.1 dX3_street_45 (by decide) (fun _ => ?_) (fun h => absurd (by decide) h)
          refine lv_aload_n hF.1 hF.2.1 dX3_street_52 rfl (lv_at hl 0 rfl) ?_
          refine lv_bipush (v := nI 103) hF.1 hF.2.1 dX3_street_53 (by decide) ?_
          refine g_vWi (As := [.int (nI 103)]) (rest := []) hF (kX3_takes l ω σ e0 v1 v2 g y a z dr pg t pl pp tf rt ((false, 0, 0, 0, 0, 0)) b2 b3 (nI 103) hp50 (by omega)) (lw_V q420 q422 qs4 q98 q423) 1 hdX3_takes rfl rfl ⟨Nat.le_of_ble_eq_true rfl, Nat.le_of_ble_eq_true rfl⟩ (y_preV hK hH hS) rfl hl.1 rfl (Nat.le_of_ble_eq_true rfl) dX3_street_55 ⟨(by first | exact Nat.le_of_ble_eq_true rfl | (simp only [rmX3_street]; omega)), (by first | exact Nat.le_of_ble_eq_true rfl | (simp only [rmX3_street]; omega))⟩ hS (fun r ρ' H locs hq hH hS => ?_)
          rcases hq with ⟨rfl, t57, rfl⟩ | ⟨rfl, t57, rfl⟩
          · skip
            refine lv_if_eq (tgt := 65) hF.1 hF.2.1 dX3_street_58 (by decide) (fun h => absurd h (by decide)) (fun _ => ?_)
            refine lv_iconst (v := nI 4) hF.1 hF.2.1 dX3_street_61 (by decide) ?_
            refine lv_goto (tgt := 66) hF.1 hF.2.1 dX3_street_62 (by decide) ?_
            refine lv_istore_n (lv' := [(1, .int (nI 4)), (0, .ref σ.1)]) hF.1 hF.2.1 dX3_street_66 rfl hl (by decide) rfl (fun ls hl => ?_)
            refine lv_aload_n hF.1 hF.2.1 dX3_street_67 rfl (lv_at hl 1 rfl) ?_
            refine lv_iload_n hF.1 hF.2.1 dX3_street_68 rfl (lv_at hl 0 rfl) ?_
            refine lv_iconst (v := (-1)) hF.1 hF.2.1 dX3_street_69 (by decide) ?_
            refine lv_icmp_eq (tgt := 77) hF.1 hF.2.1 dX3_street_70 (by decide) (fun h => absurd h (by decide)) (fun _ => ?_)
            refine lv_iconst (v := nI 1) hF.1 hF.2.1 dX3_street_73 (by decide) ?_
            refine lv_goto (tgt := 78) hF.1 hF.2.1 dX3_street_74 (by decide) ?_
            refine g_vT (As := [.int (nI 1)]) (rest := []) hF (kX3_want l ω σ e0 v1 v2 (g, y, a, z, dr, pg, t) (pl + 1) pp tf rt ((false, 0, 0, 0, 0, 0)) b2 b3 (nI 1)) (lw_V q353 q355 qs2 q98 q356) 1 hdX3_want rfl rfl ⟨Nat.le_of_ble_eq_true rfl, Nat.le_of_ble_eq_true rfl⟩ (y_preV hK hH hS) rfl hl.1 rfl (Nat.le_of_ble_eq_true rfl) dX3_street_78 ⟨(by first | exact Nat.le_of_ble_eq_true rfl | (simp only [rmX3_street]; omega)), (by first | exact Nat.le_of_ble_eq_true rfl | (simp only [rmX3_street]; omega))⟩ hS (fun o ρ' H locs hq hH hS => ?_)
            rcases hq with ⟨w60, rfl, rfl⟩ | ⟨w60, hthr⟩
            · skip
              show W p l e rmX3_street s m args below meth c H locs 1 7 QQ (F0 m 81 ls [])
              refine lv_iload_n hF.1 hF.2.1 dX3_street_81 rfl (lv_at hl 0 rfl) ?_
              refine g_sNWr (As := [.int (nI 4)]) (rest := []) hF (kX0_made l ω σ e0 v1 v2 (g, y, a, z, dr, pg, t) (pl + 1) pp tf rt 0 0 0 0 0 (false, b2, b3) 4 (by omega)) (lw_meth q430) (xn_q428 hK.1.2) q92 q429 1 hdX0_made.2 rfl rfl ⟨Nat.le_of_ble_eq_true rfl, Nat.le_of_ble_eq_true rfl⟩ (y_preS hK hH hS) rfl hl.1 rfl (Nat.le_of_ble_eq_true rfl) dX3_street_82 ⟨(by first | exact Nat.le_of_ble_eq_true rfl | (simp only [rmX3_street]; omega)), (by first | exact Nat.le_of_ble_eq_true rfl | (simp only [rmX3_street]; omega))⟩ hS (fun cq H locs hH hS => ?_)
              refine lv_astore_n (lv' := [(2, .ref cq), (1, .int (nI 4)), (0, .ref σ.1)]) hF.1 hF.2.1 dX3_street_85 rfl hl (by decide) rfl (fun ls hl => ?_)
              refine lv_aload_n hF.1 hF.2.1 dX3_street_86 rfl (lv_at hl 0 rfl) ?_
              refine lv_aload_n hF.1 hF.2.1 dX3_street_87 rfl (lv_at hl 2 rfl) ?_
              refine lv_iconst (v := nI 0) hF.1 hF.2.1 dX3_street_88 (by decide) ?_
              refine lv_bipush (v := nI 7) hF.1 hF.2.1 dX3_street_89 (by decide) ?_
              refine g_vT (As := [.int (nI 0), .int (nI 7)]) (rest := [.ref cq]) hF (kX3_digit l ω σ e0 v1 v2 g y a z dr pg t (pl + 1) pp tf rt ((true, cq, 4, 0, 0, 0)) b2 b3 0 7 hp50 (by omega) (by omega) (by omega)) (lw_V q344 q346 qs0 q98 q347) 2 hdX3_digit rfl rfl ⟨Nat.le_of_ble_eq_true rfl, Nat.le_of_ble_eq_true rfl⟩ (y_preV hK hH hS) rfl hl.1 rfl (Nat.le_of_ble_eq_true rfl) dX3_street_91 ⟨(by first | exact Nat.le_of_ble_eq_true rfl | (simp only [rmX3_street]; omega)), (by first | exact Nat.le_of_ble_eq_true rfl | (simp only [rmX3_street]; omega))⟩ hS (fun o ρ' H locs hq hH hS => ?_)
              rcases hq with ⟨n62, g61, rfl, rfl⟩ | ⟨g61, hthr⟩
              · skip
                show W p l e rmX3_street s m args below meth c H locs 3 17 QQ (F0 m 94 ls [.int (nI n62), .ref cq])
                refine yp_one hF hK.1 hH hS q441 dX3_street_94 (fun H locs hH hS => ?_)
                refine lv_aload_n hF.1 hF.2.1 dX3_street_97 rfl (lv_at hl 2 rfl) ?_
                refine lv_aload_n hF.1 hF.2.1 dX3_street_98 rfl (lv_at hl 2 rfl) ?_
                refine g_vPi (As := []) (rest := [.ref σ.1]) hF (kX3_next l ω σ e0 v1 v2 g y a z dr pg t ((pl + 1) + 1) pp tf rt ((true, cq, 4, n62, 0, 0)) b2 b3 hp50 (by omega)) (lw_V q348 q350 qs1 q98 q351) 0 hdX3_next rfl rfl ⟨Nat.le_of_ble_eq_true rfl, Nat.le_of_ble_eq_true rfl⟩ (y_preV hK hH hS) rfl hl.1 rfl (Nat.le_of_ble_eq_true rfl) dX3_street_99 ⟨(by first | exact Nat.le_of_ble_eq_true rfl | (simp only [rmX3_street]; omega)), (by first | exact Nat.le_of_ble_eq_true rfl | (simp only [rmX3_street]; omega))⟩ (fun r e_r => ?_)
                subst e_r
                refine lv_bipush (v := nI 48) hF.1 hF.2.1 dX3_street_102 (by decide) ?_
                refine lv_isub hF.1 hF.2.1 dX3_street_104 ?_
                refine lv_aload_n hF.1 hF.2.1 dX3_street_105 rfl (lv_at hl 0 rfl) ?_
                refine yg_one hF hK.1 hH q441 dX3_street_106 ?_
                refine lv_icmp_eq (tgt := 116) hF.1 hF.2.1 dX3_street_109 (by decide) (fun c63 => ?_) (fun c63 => ?_)
                · skip
                  refine lv_iconst (v := nI 0) hF.1 hF.2.1 dX3_street_116 (by decide) ?_
                  refine g_vT (As := [.int (nI 0)]) (rest := []) hF (kX3_want l ω σ e0 v1 v2 (g, y, a, z, dr, pg, t) ((pl + 1) + 1) pp tf rt ((true, cq, 4, n62, 0, 0)) b2 b3 (nI 0)) (lw_V q353 q355 qs2 q98 q356) 1 hdX3_want rfl rfl ⟨Nat.le_of_ble_eq_true rfl, Nat.le_of_ble_eq_true rfl⟩ (y_preV hK hH hS) rfl hl.1 rfl (Nat.le_of_ble_eq_true rfl) dX3_street_117 ⟨(by first | exact Nat.le_of_ble_eq_true rfl | (simp only [rmX3_street]; omega)), (by first | exact Nat.le_of_ble_eq_true rfl | (simp only [rmX3_street]; omega))⟩ hS (fun o ρ' H locs hq hH hS => ?_)
                  rcases hq with ⟨w64, rfl, rfl⟩ | ⟨w64, hthr⟩
                  · exact absurd nI_0 w64
                  · skip
                    obtain ⟨qq, rfl, hso⟩ := hthr
                    refine WT.widen (k := 7) (n := 48) (by first | exact Nat.le_of_ble_eq_true rfl | omega) (by first | exact Nat.le_of_ble_eq_true rfl | omega) ?_
                    exact hE.2.2.2.2 _ _ qq _ ρ' _ _ (Or.inr ⟨_, Or.inr (Or.inr (Or.inl ⟨4, n62, ⟨by omega, t57⟩, g61, rfl, Or.inr c63⟩)), qq, rfl, hso⟩) hH hS
                · skip
                  refine lv_iconst (v := nI 1) hF.1 hF.2.1 dX3_street_112 (by decide) ?_
                  refine lv_goto (tgt := 117) hF.1 hF.2.1 dX3_street_113 (by decide) ?_
                  refine g_vT (As := [.int (nI 1)]) (rest := []) hF (kX3_want l ω σ e0 v1 v2 (g, y, a, z, dr, pg, t) ((pl + 1) + 1) pp tf rt ((true, cq, 4, n62, 0, 0)) b2 b3 (nI 1)) (lw_V q353 q355 qs2 q98 q356) 1 hdX3_want rfl rfl ⟨Nat.le_of_ble_eq_true rfl, Nat.le_of_ble_eq_true rfl⟩ (y_preV hK hH hS) rfl hl.1 rfl (Nat.le_of_ble_eq_true rfl) dX3_street_117 ⟨(by first | exact Nat.le_of_ble_eq_true rfl | (simp only [rmX3_street]; omega)), (by first | exact Nat.le_of_ble_eq_true rfl | (simp only [rmX3_street]; omega))⟩ hS (fun o ρ' H locs hq hH hS => ?_)
                  rcases hq with ⟨w65, rfl, rfl⟩ | ⟨w65, hthr⟩
                  · skip
                    show W p l e rmX3_street s m args below meth c H locs 4 24 QQ (F0 m 120 ls [])
                    refine lv_aload_n hF.1 hF.2.1 dX3_street_120 rfl (lv_at hl 0 rfl) ?_
                    refine lv_aload_n hF.1 hF.2.1 dX3_street_121 rfl (lv_at hl 2 rfl) ?_
                    refine lv_iconst (v := nI 0) hF.1 hF.2.1 dX3_street_122 (by decide) ?_
                    refine lv_bipush (v := nI 7) hF.1 hF.2.1 dX3_street_123 (by decide) ?_
                    refine g_vT (As := [.int (nI 0), .int (nI 7)]) (rest := [.ref cq]) hF (kX3_digit l ω σ e0 v1 v2 g y a z dr pg t ((pl + 1) + 1) pp tf rt ((true, cq, 4, n62, 0, 0)) b2 b3 0 7 hp50 (by omega) (by omega) (by omega)) (lw_V q344 q346 qs0 q98 q347) 2 hdX3_digit rfl rfl ⟨Nat.le_of_ble_eq_true rfl, Nat.le_of_ble_eq_true rfl⟩ (y_preV hK hH hS) rfl hl.1 rfl (Nat.le_of_ble_eq_true rfl) dX3_street_125 ⟨(by first | exact Nat.le_of_ble_eq_true rfl | (simp only [rmX3_street]; omega)), (by first | exact Nat.le_of_ble_eq_true rfl | (simp only [rmX3_street]; omega))⟩ hS (fun o ρ' H locs hq hH hS => ?_)
                    rcases hq with ⟨n67, g66, rfl, rfl⟩ | ⟨g66, hthr⟩
                    · skip
                      show W p l e rmX3_street s m args below meth c H locs 5 31 QQ (F0 m 128 ls [.int (nI n67), .ref cq])
                      refine yp_other hF hK.1 hH hS q445 dX3_street_128 (fun H locs hH hS => ?_)
                      have hab : ¬ n62 = n67 := fun q => c63 (by rw [q]; exact dgt_nx g66 (by omega))
                      refine lv_aload_n hF.1 hF.2.1 dX3_street_131 rfl (lv_at hl 0 rfl) ?_
                      refine lv_aload_n hF.1 hF.2.1 dX3_street_132 rfl (lv_at hl 2 rfl) ?_
                      refine lv_iconst (v := nI 1) hF.1 hF.2.1 dX3_street_133 (by decide) ?_
                      refine lv_bipush (v := nI 9) hF.1 hF.2.1 dX3_street_134 (by decide) ?_
                      refine g_vT (As := [.int (nI 1), .int (nI 9)]) (rest := [.ref cq]) hF (kX3_digit l ω σ e0 v1 v2 g y a z dr pg t (((pl + 1) + 1) + 1) pp tf rt ((true, cq, 4, n62, n67, 0)) b2 b3 1 9 hp50 (by omega) (by omega) (by omega)) (lw_V q344 q346 qs0 q98 q347) 2 hdX3_digit rfl rfl ⟨Nat.le_of_ble_eq_true rfl, Nat.le_of_ble_eq_true rfl⟩ (y_preV hK hH hS) rfl hl.1 rfl (Nat.le_of_ble_eq_true rfl) dX3_street_136 ⟨(by first | exact Nat.le_of_ble_eq_true rfl | (simp only [rmX3_street]; omega)), (by first | exact Nat.le_of_ble_eq_true rfl | (simp only [rmX3_street]; omega))⟩ hS (fun o ρ' H locs hq hH hS => ?_)
                      rcases hq with ⟨n69, g68, rfl, rfl⟩ | ⟨g68, hthr⟩
                      · skip
                        show W p l e rmX3_street s m args below meth c H locs 6 38 QQ (F0 m 139 ls [.int (nI n69), .ref cq])
                        refine yp_length hF hK.1 hH hS q449 dX3_street_139 (fun H locs hH hS => ?_)
                        refine lv_aload_n hF.1 hF.2.1 dX3_street_142 rfl (lv_at hl 2 rfl) ?_
                        refine yg_streets hF hK.1 hH q326 dX3_street_143 ?_
                        refine lv_aload_n hF.1 hF.2.1 dX3_street_146 rfl (lv_at hl 0 rfl) ?_
                        refine y_add hF hK hte hH hS h8 (by omega) (by omega) hab (by omega) (by omega) ⟨Nat.le_of_ble_eq_true rfl, Nat.le_of_ble_eq_true rfl⟩ hl.1 (Nat.le_of_ble_eq_true rfl) dX3_street_147 ⟨(by first | exact Nat.le_of_ble_eq_true rfl | (simp only [rmX3_street]; omega)), (by first | exact Nat.le_of_ble_eq_true rfl | (simp only [rmX3_street]; omega))⟩ (fun ed H locs hH hS => ?_)
                        refine lv_pop hF.1 hF.2.1 dX3_street_150 rfl ?_
                        exact hE.2.1 _ _ ((((pl + 1) + 1) + 1) + 1, pp, tf, (tpush rt 4 n62 n67 n69 cq ed), (false, 0, 0, 0, 0, 0), (false, b2, b3)) _ _ rfl dX3_street_151 (Or.inl ⟨4, n62, n67, n69, cq, ed, ⟨⟨by omega, t57⟩, g61, g66, hab, g68⟩, rfl, rfl⟩) hH hS
                      · skip
                        obtain ⟨qq, rfl, hso⟩ := hthr
                        refine WT.widen (k := 7) (n := 48) (by first | exact Nat.le_of_ble_eq_true rfl | omega) (by first | exact Nat.le_of_ble_eq_true rfl | omega) ?_
                        exact hE.2.2.2.2 _ _ qq _ ρ' _ _ (Or.inr ⟨_, Or.inr (Or.inr (Or.inr ⟨4, n62, _, ⟨by omega, t57⟩, g61, g66, hab, rfl, g68⟩)), qq, rfl, hso⟩) hH hS
                    · skip
                      obtain ⟨qq, rfl, hso⟩ := hthr
                      refine WT.widen (k := 7) (n := 48) (by first | exact Nat.le_of_ble_eq_true rfl | omega) (by first | exact Nat.le_of_ble_eq_true rfl | omega) ?_
                      exact hE.2.2.2.2 _ _ qq _ ρ' _ _ (Or.inr ⟨_, Or.inr (Or.inr (Or.inl ⟨4, n62, ⟨by omega, t57⟩, g61, rfl, Or.inl g66⟩)), qq, rfl, hso⟩) hH hS
                  · exact absurd w65 (by decide)
              · skip
                obtain ⟨qq, rfl, hso⟩ := hthr
                refine WT.widen (k := 7) (n := 48) (by first | exact Nat.le_of_ble_eq_true rfl | omega) (by first | exact Nat.le_of_ble_eq_true rfl | omega) ?_
                exact hE.2.2.2.2 _ _ qq _ ρ' _ _ (Or.inr ⟨_, Or.inr (Or.inl ⟨4, ⟨by omega, t57⟩, rfl, g61⟩), qq, rfl, hso⟩) hH hS
            · exact absurd w60 (by decide)
          · skip
            refine lv_if_eq (tgt := 65) hF.1 hF.2.1 dX3_street_58 (by decide) (fun _ => ?_) (fun h => absurd (by decide) h)
            refine lv_iconst (v := (-1)) hF.1 hF.2.1 dX3_street_65 (by decide) ?_
            refine lv_istore_n (lv' := [(1, .int ((-1))), (0, .ref σ.1)]) hF.1 hF.2.1 dX3_street_66 rfl hl (by decide) rfl (fun ls hl => ?_)
            refine lv_aload_n hF.1 hF.2.1 dX3_street_67 rfl (lv_at hl 1 rfl) ?_
            refine lv_iload_n hF.1 hF.2.1 dX3_street_68 rfl (lv_at hl 0 rfl) ?_
            refine lv_iconst (v := (-1)) hF.1 hF.2.1 dX3_street_69 (by decide) ?_
            refine lv_icmp_eq (tgt := 77) hF.1 hF.2.1 dX3_street_70 (by decide) (fun _ => ?_) (fun h => absurd (by decide) h)
            refine lv_iconst (v := nI 0) hF.1 hF.2.1 dX3_street_77 (by decide) ?_
            refine g_vT (As := [.int (nI 0)]) (rest := []) hF (kX3_want l ω σ e0 v1 v2 (g, y, a, z, dr, pg, t) pl pp tf rt ((false, 0, 0, 0, 0, 0)) b2 b3 (nI 0)) (lw_V q353 q355 qs2 q98 q356) 1 hdX3_want rfl rfl ⟨Nat.le_of_ble_eq_true rfl, Nat.le_of_ble_eq_true rfl⟩ (y_preV hK hH hS) rfl hl.1 rfl (Nat.le_of_ble_eq_true rfl) dX3_street_78 ⟨(by first | exact Nat.le_of_ble_eq_true rfl | (simp only [rmX3_street]; omega)), (by first | exact Nat.le_of_ble_eq_true rfl | (simp only [rmX3_street]; omega))⟩ hS (fun o ρ' H locs hq hH hS => ?_)
            rcases hq with ⟨w72, rfl, rfl⟩ | ⟨w72, hthr⟩
            · exact absurd nI_0 w72
            · skip
              obtain ⟨qq, rfl, hso⟩ := hthr
              refine WT.widen (k := 7) (n := 48) (by first | exact Nat.le_of_ble_eq_true rfl | omega) (by first | exact Nat.le_of_ble_eq_true rfl | omega) ?_
              exact hE.2.2.2.2 _ _ qq _ ρ' _ _ (Or.inr ⟨pl, Or.inl ⟨rfl, no_kind t1 t15 t29 t43 t57⟩, qq, rfl, hso⟩) hH hS
