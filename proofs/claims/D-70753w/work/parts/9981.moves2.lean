/-! THE LAW, 19: what moves the state, 2 -/
set_option maxRecDepth 100000
theorem byte_code : ∀ n, n < 127 → vp_nar .byte (nI n).toInt8.toInt32 = nI n := by decide +kernel
section MOV2
variable {c e0 : Nat} {g : Nat → Nat} {a : Nat → Nat → Int32} {kt : Int32} {gx : Nat → Nat → Nat} {ax : Nat → Nat → Nat → Int32} {pg : Nat → Int32} {t : TW}
/-- only the page moved -/
theorem Rel.page_to {g' : Nat → Nat} {a' : Nat → Nat → Int32} {gx' : Nat → Nat → Nat} {pg' : Nat → Int32} (h : Rel c e0 g a kt gx ax pg t) (k1 : ∀ k, ¬ k = 1 → g' k = g k) (k2 : ∀ k, ¬ k = 0 → a' k = a k) (k3 : ∀ o k, ¬ (o = 0 ∧ k = 7) → gx' o k = gx o k) (hp : g' 1 = gx' 0 7 ∧ g' 1 ≤ 50 ∧ ∀ i, i < g' 1 → a' 0 i = pg' i) : Rel (c + 1) e0 g' a' kt gx' ax pg' t := by
  obtain ⟨-, h2⟩ := h.up
  unfold Rel mTown
  rw [k1 3 (by omega), k1 4 (by omega), k1 6 (by omega), k1 5 (by omega), k1 15 (by omega), k1 21 (by omega), k1 22 (by omega), k2 7 (by omega), k2 8 (by omega), k2 9 (by omega), k2 10 (by omega), k2 16 (by omega), k2 23 (by omega), k2 24 (by omega), k2 25 (by omega), k2 26 (by omega), k3 0 1 (by omega), k3 0 2 (by omega), k3 (0 + 6) 9 (by omega), k3 0 12 (by omega), k3 (2 + 6) 9 (by omega), k3 0 19 (by omega), k3 0 20 (by omega)]
  exact ⟨hp, h2⟩
theorem up_ne1 (g : Nat → Nat) (v : Nat) (n : Nat) : ∀ k, ¬ k = n → va_up g n v k = g k := fun k hk => by unfold va_up; rw [if_neg hk]
theorem s_blank (h : Rel c e0 g a kt gx ax pg t) : (fX2_blank g).1 = (fX0_blank gx).1 ∧ Rel (c + 1) e0 (va_up g 1 (fX2_blank g).2) a kt (up2 gx 0 7 (fX0_blank gx).2) ax pg t := by
  refine ⟨by show nI (g 1) = nI (gx 0 7); rw [h.page.1], h.page_to (up_ne1 g _ 1) (fun _ _ => rfl) (fun o k hk => by unfold up2; rw [if_neg hk]) ⟨rfl, Nat.zero_le _, fun i hi => absurd hi (by show ¬ i < 0; omega)⟩⟩
theorem s_letter (h : Rel c e0 g a kt gx ax pg t) (x : Int32) : (fX2_letter g a x).1 = (fX0_letter gx pg x).1 ∧ Rel (c + 1) e0 (va_up g 1 (fX2_letter g a x).2.2) (va_up a 0 (fX2_letter g a x).2.1) kt (up2 gx 0 7 (fX0_letter gx pg x).2.1) ax (fX0_letter gx pg x).2.2 t := by
  unfold fX2_letter fX0_letter
  rw [in_eqN x 1 126 1 126 (by decide) (by decide), ← h.page.1]
  by_cases z : fX0_in x (nI 1) (nI 126) = 0
  · rw [if_pos z, if_pos z]
    refine ⟨rfl, ?_⟩
    show Rel (c + 1) e0 (va_up g 1 (g 1)) (va_up a 0 (a 0)) kt (up2 gx 0 7 (g 1)) ax pg t
    rw [va_same, va_same, h.page.1, up2_same]; exact h.up
  · rw [if_neg z, if_neg z]
    by_cases z1 : g 1 = 50
    · rw [if_pos z1, if_pos z1]
      refine ⟨rfl, ?_⟩
      show Rel (c + 1) e0 (va_up g 1 (g 1)) (va_up a 0 (a 0)) kt (up2 gx 0 7 (g 1)) ax pg t
      rw [va_same, va_same, h.page.1, up2_same]; exact h.up
    · rw [if_neg z1, if_neg z1]
      obtain ⟨k, hk, rfl⟩ := in32_lift2' (by omega) (by omega) z
      refine ⟨rfl, h.page_to (up_ne1 g _ 1) (fun k hk => by unfold va_up; rw [if_neg hk]) (fun o k hk => by unfold up2; rw [if_neg hk]) ⟨rfl, by show g 1 + 1 ≤ 50; have := h.page.2.1; omega, fun i hi => ?_⟩⟩
      have hi : i < g 1 + 1 := hi
      show upd (a 0) (g 1) (nI k) i = upd pg (g 1) (vp_nar .byte (nI k).toInt8.toInt32) i
      rw [byte_code k (by omega)]
      unfold upd
      by_cases w : i = g 1
      · rw [if_pos w, if_pos w]
      · rw [if_neg w, if_neg w]; exact h.page.2.2 i (by omega)
theorem s_forget (h : Rel c e0 g a kt gx ax pg t) : (fX2_forget g).1 = (fX0_forget gx).1 ∧ Rel (c + 1) e0 (va_up g 15 (fX2_forget g).2) a kt (up2 gx 0 12 (fX0_forget gx).2) ax pg t := by
  obtain ⟨r1, r5, r6⟩ := h.part
  obtain ⟨m1, m2, m3, m4, m5, m6, m7⟩ := h.om
  refine ⟨by show nI (g 15) = nI (gx 0 12); rw [r6.1], ?_⟩
  exact h.cur ⟨rfl, rfl, rfl, rfl, rfl, rfl⟩ ⟨rfl, rfl, rfl, rfl, rfl, rfl⟩ ⟨rfl, rfl, rfl, rfl, rfl, rfl⟩ ⟨rfl, rfl, rfl, rfl, rfl⟩ ⟨r1, r5, rfl, Nat.zero_le _, r6.2.2⟩ ⟨m1, m2, (h.om.up (show 8 * c ≤ 8 * (c + 1) by omega)).2.2.1, m4, m5, Nat.zero_le _, fun k hk => absurd hk (by show ¬ k < 0; omega)⟩ h.ox
theorem s_stand (h : Rel c e0 g a kt gx ax pg t) (d x : Int32) : (fX2_stand g a d x).1 = (fX0_stand gx ax d x).1 ∧ Rel (c + 1) e0 g (va_up a 10 (fX2_stand g a d x).2) kt gx (up2 ax (0 + 6) 6 (fX0_stand gx ax d x).2) pg t := by
  unfold fX2_stand fX0_stand
  rw [l_driver h.n3 h.le3 h.n40, l_corner]
  by_cases z : fX0_isDriver gx d = 0
  · rw [if_pos z, if_pos z, va_same, up2_same]; exact ⟨rfl, h.up⟩
  · rw [if_neg z, if_neg z]
    by_cases z1 : fX0_isCorner x = 0
    · rw [if_pos z1, if_pos z1, va_same, up2_same]; exact ⟨rfl, h.up⟩
    · rw [if_neg z1, if_neg z1]
      obtain ⟨j, hj, rfl⟩ := xDriver_lift z
      obtain ⟨k, hk, rfl⟩ := xCorner_lift z1
      rw [show toN (nI j) = j from toN_nI (by omega)]
      obtain ⟨⟨r1, r2, r3, r4⟩, r5, r6⟩ := h.part
      obtain ⟨m1, m2, m3, m4, m5⟩ := h.om
      obtain ⟨x1, x2, x3, x4, x5⟩ := h.ox
      have u1 : ∀ q, upd (a 10) (3 * j) (nI k) q = if q = 3 * j then nI k else a 10 q := fun q => rfl
      refine ⟨(r3 j hj).1, ?_⟩
      refine h.cur ⟨rfl, rfl, rfl, rfl, rfl, rfl⟩ ⟨rfl, rfl, rfl, rfl, rfl, rfl⟩ ⟨rfl, rfl, rfl, rfl, rfl, rfl⟩ ⟨rfl, rfl, rfl, rfl, rfl⟩ ⟨⟨r1, r2, fun d hd => ?_, r4⟩, ?_, r6⟩ ⟨m1, m2, (h.om.up (show 8 * c ≤ 8 * (c + 1) by omega)).2.2.1, fun d hd => ?_, m5⟩ ⟨x1, x2, fun d hd => ?_, x4, x5⟩
      · obtain ⟨q0, q1, q2⟩ := r3 d hd
        refine ⟨?_, ?_, ?_⟩
        · show upd (a 10) (3 * j) (nI k) (3 * d) = upd (ax (0 + 6) 6) j (nI k) d
          unfold upd
          by_cases w : d = j
          · rw [if_pos (by omega), if_pos w]
          · rw [if_neg (by omega), if_neg w]; exact q0
        · show upd (a 10) (3 * j) (nI k) (3 * d + 1) = ax (0 + 6) 7 d
          rw [u1, if_neg (by omega)]; exact q1
        · show upd (a 10) (3 * j) (nI k) (3 * d + 2) = ax (0 + 6) 8 d
          rw [u1, if_neg (by omega)]; exact q2
      · show it (fun p S => S + ax (0 + 6) 2 p) (g 3) (nI 0) = upd (a 10) (3 * j) (nI k) 2 + upd (a 10) (3 * j) (nI k) 5
        rw [u1, u1, if_neg (by omega), if_neg (by omega)]; exact r5
      · show ∃ i, i < 8 ∧ upd (a 10) (3 * j) (nI k) (3 * d) = nI i
        rw [u1]
        by_cases w : 3 * d = 3 * j
        · rw [if_pos w]; exact ⟨k, hk, rfl⟩
        · rw [if_neg w]; exact m4 d hd
      · show ∃ i, i < 8 ∧ upd (ax (0 + 6) 6) j (nI k) d = nI i
        unfold upd
        by_cases w : d = j
        · rw [if_pos w]; exact ⟨k, hk, rfl⟩
        · rw [if_neg w]; exact x3 d hd
end MOV2
