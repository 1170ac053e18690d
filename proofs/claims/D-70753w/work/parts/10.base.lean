/-! BASE: worlds by functions (cells by a pair of numbers), stores into them, rows over natural numbers, loops -/
set_option maxRecDepth 100000
def up2 {α : Type} (f : Nat → Nat → α) (o k : Nat) (v : α) : Nat → Nat → α := fun o' k' => if o' = o ∧ k' = k then v else f o' k'
theorem up2_self {α : Type} (f : Nat → Nat → α) (o k : Nat) (v : α) : up2 f o k v o k = v := by simp [up2]
theorem up2_ne {α : Type} (f : Nat → Nat → α) {o k o' k' : Nat} (v : α) (h : ¬ (o' = o ∧ k' = k)) : up2 f o k v o' k' = f o' k' := if_neg h
/-- a loop: body 0, then body 1 .. -/
def it {α : Type} (f : Nat → α → α) : Nat → α → α
  | 0, a => a
  | n + 1, a => f n (it f n a)
theorem it_succ {α : Type} (f : Nat → α → α) (n : Nat) (a : α) : it f (n + 1) a = f n (it f n a) := rfl
theorem it_zero {α : Type} (f : Nat → α → α) (a : α) : it f 0 a = a := rfl
/-- the world: the cells of the pairs in I -/
def gw_P (D : va_G) (cl : List vw_C) (I : Nat → Nat → Bool) (ad : Nat → Nat → Nat) (E : Nat → Nat → va_E) (H : Heap) : Prop := ∀ o k : Nat, I o k = true → va_at D cl (ad o k, E o k) H
def gw_D (A : Nat → Prop) (I : Nat → Nat → Bool) (ad : Nat → Nat → Nat) : Prop := (∀ o k o' k' : Nat, I o k = true → I o' k' = true → ad o k = ad o' k' → o = o' ∧ k = k') ∧ ∀ o k : Nat, I o k = true → A (ad o k)
theorem gw_one {D : va_G} {cl : List vw_C} {I : Nat → Nat → Bool} {ad : Nat → Nat → Nat} {E : Nat → Nat → va_E} {H : Heap} (h : gw_P D cl I ad E H) {o k : Nat} (hi : I o k = true) {ee : va_E} (he : E o k = ee) : va_P D cl [(ad o k, ee)] H := by
  intro i q hq
  have hz : i < 1 := (List.getElem?_eq_some_iff.mp hq).1
  rw [show i = 0 by omega] at hq
  cases hq
  rw [← he]
  exact h o k hi
theorem gw_P.to {D : va_G} {cl : List vw_C} {I J : Nat → Nat → Bool} {ad : Nat → Nat → Nat} {E E' : Nat → Nat → va_E} {H : Heap} (h : gw_P D cl I ad E H) (hE : ∀ o k : Nat, J o k = true → I o k = true ∧ E o k = E' o k) : gw_P D cl J ad E' H := by
  intro o k hi
  obtain ⟨h1, h2⟩ := hE o k hi
  rw [← h2]
  exact h o k h1
theorem gw_P.kept {D : va_G} {cl : List vw_C} {I : Nat → Nat → Bool} {ad : Nat → Nat → Nat} {E : Nat → Nat → va_E} {H H1 : Heap} (h : gw_P D cl I ad E H) (hk : ∀ o k : Nat, I o k = true → H1[ad o k]? = H[ad o k]?) : gw_P D cl I ad E H1 := fun o k hi => (h o k hi).kept (hk o k hi)
theorem gw_P.set {D : va_G} {cl : List vw_C} {A : Nat → Prop} {I : Nat → Nat → Bool} {ad : Nat → Nat → Nat} {E : Nat → Nat → va_E} {H H1 : Heap} (h : gw_P D cl I ad E H) (hD : gw_D A I ad) {o k : Nat} {ee : va_E} (hi : I o k = true) (he : va_at D cl (ad o k, ee) H1) (oq : ∀ q : Nat, q ≠ ad o k → H1[q]? = H[q]?) : gw_P D cl I ad (up2 E o k ee) H1 := by
  intro o' k' hi'
  by_cases hx : o' = o ∧ k' = k
  · obtain ⟨h1, h2⟩ := hx
    subst h1; subst h2
    rw [up2_self]
    exact he
  · rw [up2_ne _ _ hx]
    exact (h o' k' hi').kept (oq _ (fun z => hx (hD.1 o' k' o k hi' hi z)))
section GWR
variable {p : Program} {l : Launch} {e : Env} {R : Room} {s : State} {m : MethodId} {args : Array Value} {below : List Frame} {meth : Method} {c : Code} {H : Heap} {locs : List Loc} {cells slots : Nat} {Q : State → Prop}
variable {cc : ByteArray} {pc : Nat} {ls : Array Slot} {rest : List Value} {D : va_G} {cl : List vw_C} {A : Nat → Prop} {tys : List (ClassId × FieldType)} {H0 : Heap} {I : Nat → Nat → Bool} {ad : Nat → Nat → Nat} {E : Nat → Nat → va_E}
theorem gw_put (hexec : p.tables.exec = Jvm.exec) (hb : c.code = cc) {own ref C : String} {T : u_T} {N ci index : Nat} {Ts : List Cond} (hts : ∀ w ∈ Ts, w.before args s = true) (hin : ∀ w ∈ u_ws C T N, w ∈ Ts) (ty0 : Nat → FieldType) (hty : ∀ k, k < N → parseFieldDescriptor (T k).2.2.1 = some (ty0 k)) (hnm : ∀ a, a < N → ∀ b, b < N → a ≠ b → (T a).2.1 ≠ (T b).2.1) (hown : s.vm.findClass own = some m.cls) (hK : va_K D cl tys s) (hP : gw_P D cl I ad E H) (hD : gw_D A I ad) (hS0 : va_S A H0 H locs) {o k0 : Nat} (hi0 : I o k0 = true) {fs : List Value} (he : E o k0 = .inr (ci, fs)) (hc : cl[ci]? = some (C, T, N)) (k : Nat) (hk : k < N) (hlink : (Cond.fieldLink own index ref (T k).2.1 (T k).2.2.1).before args s = true) (hsame : ∀ x, s.fieldFound? (T k).1 (T k).2.1 (T k).2.2.1 = some x → s.fieldFound? ref (T k).2.1 (T k).2.2.1 = some x) (hfin : (T k).2.2.2 = false) {ty : FieldType} {v : Value} (hd : parseFieldDescriptor (T k).2.2.1 = some ty) (hn : narrow ty v = v) (hfit : fits ty v = true) (hl : k < fs.length)
    (hdg : decode cc pc = .ok (.putfield index, 3)) (kk : ∀ (H1 : Heap) (locs1 : List Loc), gw_P D cl I ad (up2 E o k0 (.inr (ci, fs.set k v))) H1 → va_S A H0 H1 locs1 → W p l e R s m args below meth c H1 locs1 cells slots Q (F0 m (pc + 3) ls rest)) : W p l e R s m args below meth c H locs cells slots Q (F0 m pc ls (v :: .ref (ad o k0) :: rest)) := by
  have hap := va_apart (own := own) hts hin ty0 hty hnm hK hc
  obtain ⟨r, h1, cell, q1, q2, q3, q4⟩ := gw_one hP hi0 he 0 _ rfl
  have hr : r = (C, T, N) := Option.some.inj (h1.symm.trans hc)
  subst hr
  obtain ⟨hS, hfc, kC, hkC, hkind⟩ := hK.1 ci _ hc
  obtain ⟨cf, kf, fi, f, hi, hsl⟩ := hS k hk
  have hlay := hts _ (hin _ (u_in_lay hk))
  unfold u_lay at hlay
  rw [if_neg (by rw [hfin]; decide)] at hlay
  have hst := (u_facts hfc hkC (u_lays hts hin hk) hi).1
  have h6 := u_store hfc hkC hkind hlay hi hd hn hfit
  refine W.putK hexec hb (f := f) ⟨hown, hlink, ⟨_, _, _, hsame _ hi⟩, hst⟩ (by rw [q2]; exact h6) q1 q3 (by rw [hsl]; exact k2_hasslot (q4 k hk)) rfl rfl hdg fun H' e1 e2 e3 => ?_
  rw [hsl] at e1 ⊢
  exact kk H' _ (hP.set hD hi0 ⟨_, hc, t_OB.to (V := updV (vp_V fs) k v) ⟨_, e1, q2, q3, t_set q4 hap hk v⟩ (fun j _ => vp_updV_set hl v j)⟩ e3) (hS0.put e2 e3 (hD.2 o k0 hi0))
theorem gw_putN (hexec : p.tables.exec = Jvm.exec) (hb : c.code = cc) {own ref C host : String} {T : u_T} {N ci index : Nat} {Ts : List Cond} (hts : ∀ w ∈ Ts, w.before args s = true) (hin : ∀ w ∈ u_ws C T N, w ∈ Ts) (ty0 : Nat → FieldType) (hty : ∀ k, k < N → parseFieldDescriptor (T k).2.2.1 = some (ty0 k)) (hnm : ∀ a, a < N → ∀ b, b < N → a ≠ b → (T a).2.1 ≠ (T b).2.1) (hown : s.vm.findClass own = some m.cls) (hK : va_K D cl tys s) (hP : gw_P D cl I ad E H) (hD : gw_D A I ad) (hS0 : va_S A H0 H locs) {o k0 : Nat} (hi0 : I o k0 = true) {fs : List Value} (he : E o k0 = .inr (ci, fs)) (hc : cl[ci]? = some (C, T, N)) (k : Nat) (hk : k < N) (hlink : (Cond.fieldLinkNest own index ref (T k).2.1 (T k).2.2.1 host).before args s = true) (hsame : ∀ x, s.fieldFound? (T k).1 (T k).2.1 (T k).2.2.1 = some x → s.fieldFound? ref (T k).2.1 (T k).2.2.1 = some x) (hfin : (T k).2.2.2 = false) {ty : FieldType} {v : Value} (hd : parseFieldDescriptor (T k).2.2.1 = some ty) (hn : narrow ty v = v) (hfit : fits ty v = true) (hl : k < fs.length)
    (hdg : decode cc pc = .ok (.putfield index, 3)) (kk : ∀ (H1 : Heap) (locs1 : List Loc), gw_P D cl I ad (up2 E o k0 (.inr (ci, fs.set k v))) H1 → va_S A H0 H1 locs1 → W p l e R s m args below meth c H1 locs1 cells slots Q (F0 m (pc + 3) ls rest)) : W p l e R s m args below meth c H locs cells slots Q (F0 m pc ls (v :: .ref (ad o k0) :: rest)) := by
  have hap := va_apart (own := own) hts hin ty0 hty hnm hK hc
  obtain ⟨r, h1, cell, q1, q2, q3, q4⟩ := gw_one hP hi0 he 0 _ rfl
  have hr : r = (C, T, N) := Option.some.inj (h1.symm.trans hc)
  subst hr
  obtain ⟨hS, hfc, kC, hkC, hkind⟩ := hK.1 ci _ hc
  obtain ⟨cf, kf, fi, f, hi, hsl⟩ := hS k hk
  have hlay := hts _ (hin _ (u_in_lay hk))
  unfold u_lay at hlay
  rw [if_neg (by rw [hfin]; decide)] at hlay
  have hst := (u_facts hfc hkC (u_lays hts hin hk) hi).1
  have h6 := u_store hfc hkC hkind hlay hi hd hn hfit
  refine va_WputK hexec hb (f := f) hown hlink (hsame _ hi) hst (by rw [q2]; exact h6) q1 q3 (by rw [hsl]; exact k2_hasslot (q4 k hk)) rfl rfl hdg fun H' e1 e2 e3 => ?_
  rw [hsl] at e1 ⊢
  exact kk H' _ (hP.set hD hi0 ⟨_, hc, t_OB.to (V := updV (vp_V fs) k v) ⟨_, e1, q2, q3, t_set q4 hap hk v⟩ (fun j _ => vp_updV_set hl v j)⟩ e3) (hS0.put e2 e3 (hD.2 o k0 hi0))
/-- an int array's store -/
theorem gw_iast (hexec : p.tables.exec = Jvm.exec) (hb : c.code = cc) (hK : va_K D cl tys s) (hP : gw_P D cl I ad E H) (hD : gw_D A I ad) (hS : va_S A H0 H locs) {o k0 : Nat} (hi0 : I o k0 = true) (t0 : Nat) {cA : ClassId} {n : Nat} {f : Nat → Int32} (he : E o k0 = .inl (cA, n, .inl f)) (ht : tys[t0]? = some (cA, .int)) {i : Nat} {x : Int32} (hin : i < n) (hn : n < 2 ^ 31) (hdg : decode cc pc = .ok (.iastore, 1))
    (kk : ∀ (H1 : Heap) (locs1 : List Loc), gw_P D cl I ad (up2 E o k0 (.inl (cA, n, .inl (upd f i x)))) H1 → va_S A H0 H1 locs1 → W p l e R s m args below meth c H1 locs1 cells slots Q (F0 m (pc + 1) ls rest)) : W p l e R s m args below meth c H locs cells slots Q (F0 m pc ls (.int x :: .int (nI i) :: .ref (ad o k0) :: rest)) := by
  have hcl : (nI i).toNatClampNeg = i := nI_clamp (by omega)
  have hP1 : H[ad o k0]? = some (vp_cell cA (n, .inl f)) := gw_one hP hi0 he 0 _ rfl
  refine W.iast hexec hb hP1 ((hK.2 t0 _ ht).1 n (fun j => .int (f j))) (fun q => by cases q) (by show ¬ (nI i < 0 ∨ (arrV _ _ _).slots.size ≤ _); rw [arrV_size]; exact nI_in hin hn) rfl rfl hdg fun H1 e z oq => ?_
  refine kk H1 _ (hP.set hD hi0 ?_ oq) (hS.put z oq (hD.2 o k0 hi0))
  show H1[ad o k0]? = some (vp_cell _ _)
  rw [e]
  rw [vp_cell_i, vp_cell_i, arrV_store, hcl]
  congr 2
  funext q
  by_cases hq : q = i
  · subst hq
    simp [updV, upd]
  · simp [updV, upd, hq]
/-- a byte array's store -/
theorem gw_bast (hexec : p.tables.exec = Jvm.exec) (hb : c.code = cc) (hK : va_K D cl tys s) (hP : gw_P D cl I ad E H) (hD : gw_D A I ad) (hS : va_S A H0 H locs) {o k0 : Nat} (hi0 : I o k0 = true) (t0 : Nat) {cA : ClassId} {n : Nat} {f : Nat → Int32} (he : E o k0 = .inl (cA, n, .inl f)) (ht : tys[t0]? = some (cA, .byte)) {i : Nat} {x : Int32} (hin : i < n) (hn : n < 2 ^ 31) (hdg : decode cc pc = .ok (.bastore, 1))
    (kk : ∀ (H1 : Heap) (locs1 : List Loc), gw_P D cl I ad (up2 E o k0 (.inl (cA, n, .inl (upd f i (vp_nar .byte x))))) H1 → va_S A H0 H1 locs1 → W p l e R s m args below meth c H1 locs1 cells slots Q (F0 m (pc + 1) ls rest)) : W p l e R s m args below meth c H locs cells slots Q (F0 m pc ls (.int x :: .int (nI i) :: .ref (ad o k0) :: rest)) := by
  have hcl : (nI i).toNatClampNeg = i := nI_clamp (by omega)
  have hP1 : H[ad o k0]? = some (vp_cell cA (n, .inl f)) := gw_one hP hi0 he 0 _ rfl
  refine W.bast hexec hb hP1 ((hK.2 t0 _ ht).1 n (fun j => .int (f j))) (fun q => by cases q) (by show ¬ (nI i < 0 ∨ (arrV _ _ _).slots.size ≤ _); rw [arrV_size]; exact nI_in hin hn) rfl rfl hdg fun H1 e z oq => ?_
  refine kk H1 _ (hP.set hD hi0 ?_ oq) (hS.put z oq (hD.2 o k0 hi0))
  show H1[ad o k0]? = some (vp_cell _ _)
  rw [e]
  rw [vp_cell_i, vp_cell_i, arrV_store, hcl]
  congr 2
  funext q
  by_cases hq : q = i
  · subst hq
    simp [updV, upd, vp_nar]
    try rfl
  · simp [updV, upd, hq]
/-- an int array's element -/
theorem gw_iald (hexec : p.tables.exec = Jvm.exec) (hb : c.code = cc) (hK : va_K D cl tys s) (hP : gw_P D cl I ad E H) {o k0 : Nat} (hi0 : I o k0 = true) (t0 : Nat) {cA : ClassId} {n : Nat} {f : Nat → Int32} (he : E o k0 = .inl (cA, n, .inl f)) (ht : tys[t0]? = some (cA, .int)) {i : Nat} (hin : i < n) (hn : n < 2 ^ 31) (hdg : decode cc pc = .ok (.iaload, 1))
    (kk : W p l e R s m args below meth c H locs cells slots Q (F0 m (pc + 1) ls (.int (f i) :: rest))) : W p l e R s m args below meth c H locs cells slots Q (F0 m pc ls (.int (nI i) :: .ref (ad o k0) :: rest)) :=
  va_iald hexec hb hK (gw_one hP hi0 he) 0 t0 rfl ht (nI_in hin hn) hdg (by rw [nI_clamp (by omega)]; exact kk)
theorem gw_bald (hexec : p.tables.exec = Jvm.exec) (hb : c.code = cc) (hK : va_K D cl tys s) (hP : gw_P D cl I ad E H) {o k0 : Nat} (hi0 : I o k0 = true) (t0 : Nat) {cA : ClassId} {n : Nat} {f : Nat → Int32} (he : E o k0 = .inl (cA, n, .inl f)) (ht : tys[t0]? = some (cA, .byte)) {i : Nat} (hin : i < n) (hn : n < 2 ^ 31) (hdg : decode cc pc = .ok (.baload, 1))
    (kk : W p l e R s m args below meth c H locs cells slots Q (F0 m (pc + 1) ls (.int (f i) :: rest))) : W p l e R s m args below meth c H locs cells slots Q (F0 m pc ls (.int (nI i) :: .ref (ad o k0) :: rest)) :=
  va_bald hexec hb hK (gw_one hP hi0 he) 0 t0 rfl ht (nI_in hin hn) hdg (by rw [nI_clamp (by omega)]; exact kk)
end GWR
theorem va_up_id {α : Type} (f : Nat → α) (k : Nat) : va_up f k (f k) = f := by
  funext j
  by_cases h : j = k
  · subst h; exact va_up_self _ _ _
  · exact va_up_ne _ _ h
theorem up2_id {α : Type} (f : Nat → Nat → α) (o k : Nat) : up2 f o k (f o k) = f := by
  funext i j
  by_cases h : i = o ∧ j = k
  · obtain ⟨h1, h2⟩ := h
    subst h1; subst h2
    exact up2_self _ _ _ _
  · exact up2_ne _ _ h
/-- a loop that may stop early: once the mark is set nothing moves -/
theorem it_stop {α : Type} {f : Nat → α × Bool → α × Bool} (hf : ∀ (i : Nat) (S : α × Bool), S.2 = true → f i S = S) {S0 : α × Bool} {a : α} {i : Nat} (h : (a, true) = it f i S0) : ∀ n : Nat, i ≤ n → it f n S0 = (a, true) := by
  intro n hn
  induction n with
  | zero =>
    have : i = 0 := by omega
    subst this
    exact h.symm
  | succ n ih =>
    by_cases hq : i = n + 1
    · subst hq
      exact h.symm
    · rw [it_succ, ih (by omega), hf _ _ rfl]
