/-! X: lines and edges -/
theorem xfr_tI {lo hi : Nat} {w w1 : xw} {a k : Nat} {v : Int32} (f : xfr lo hi w w1) (h : lo ≤ a ∧ a ≤ hi) : xfr lo hi w (xUpI w1 a k v) := xfr_trans f (xfr_uI (lo := lo) (hi := hi) w1 k v h) (by omega) (by omega)
theorem xfr_tL {lo hi : Nat} {w w1 : xw} {a k : Nat} {v : Int64} (f : xfr lo hi w w1) (h : lo ≤ a ∧ a ≤ hi) : xfr lo hi w (xUpL w1 a k v) := xfr_trans f (xfr_uL (lo := lo) (hi := hi) w1 k v h) (by omega) (by omega)
theorem mb_zero {x : Int64} : x = 0 ↔ ∀ p, p < 64 → mb x p = false := ⟨fun h p _ => by rw [h, mb_0], fun h => mb_ext (fun p hp => by rw [h p hp, mb_0])⟩
theorem mb_orB {w a b : Nat} {k p : Nat} (hp : p < 64) (h : ∀ j, j < k → btw w a b j < 64) : mb (orB w a b k) p = true ↔ ∃ j, 1 ≤ j ∧ j < k ∧ btw w a b j = p := by
  induction k with
  | zero => simp [orB, mb_0]
  | succ k ih =>
    have ih := ih (fun j hj => h j (by omega))
    unfold orB
    by_cases z : k = 0
    · rw [if_pos z, mb_0]
      constructor
      · intro q; cases q
      · intro ⟨j, h1, h2, _⟩; omega
    · rw [if_neg z, mb_or, Bool.or_eq_true, ih, mb_b1 (h k (by omega)) hp]
      constructor
      · rintro (⟨j, h1, h2, h3⟩ | h3)
        · exact ⟨j, h1, by omega, h3⟩
        · exact ⟨k, by omega, by omega, (of_decide_eq_true h3).symm⟩
      · rintro ⟨j, h1, h2, h3⟩
        by_cases e : j = k
        · right; rw [← e]; exact decide_eq_true h3.symm
        · exact Or.inl ⟨j, h1, by omega, h3⟩
theorem and_ends {B : Bd} {st : Nat → Nat} {p c : Nat} (i : Nat) (hp : p < 36) (hc : c < 36) (h1 : st p ≠ 0) (h2 : st c ≠ 0) : (mkL B st i &&& (b1 p ||| b1 c) = 0) ↔ (mkG B st p i = false ∧ mkG B st c i = false) := by
  rw [mb_zero]
  constructor
  · intro h
    have a1 := h p (by omega)
    have a2 := h c (by omega)
    rw [mb_and, mb_or, mb_mkL B st i (by omega), mb_b1 (by omega) (by omega), mb_b1 (by omega) (by omega)] at a1 a2
    simp [hp, h1] at a1
    simp [hc, h2] at a2
    exact ⟨a1, a2⟩
  · rintro ⟨a1, a2⟩ u hu
    rw [mb_and, mb_or, mb_mkL B st i hu, mb_b1 (by omega) hu, mb_b1 (by omega) hu]
    by_cases e1 : u = p
    · subst e1; simp [a1]
    · by_cases e2 : u = c
      · subst e2; simp [a2]
      · simp [e1, e2]
theorem btw_all {B : Bd} {st : Nat → Nat} {p c : Nat} (hN : bN B ≤ 36) (hp : p < bN B) (hc : c < bN B) : ((betG (bW B) p c &&& allL st) &&& (mkL B st 1 ^^^ (-1)) = 0) ↔ ((List.range (stp (bW B) p c)).all (fun k => decide (k = 0) || decide (st (btw (bW B) p c k) = 0) || mkG B st (btw (bW B) p c k) 1)) = true := by
  have hb : ∀ j, j < stp (bW B) p c → btw (bW B) p c j < bN B := fun j hj => btw_lt hp hc hj
  rw [mb_zero, List.all_eq_true]
  constructor
  · intro h k hk
    have hk := List.mem_range.mp hk
    have hl := hb k hk
    have a := h (btw (bW B) p c k) (by omega)
    rw [mb_and, mb_and, mb_not _ (by omega), mb_allL st (by omega), mb_mkL B st 1 (by omega)] at a
    by_cases z : k = 0
    · simp [z]
    · have m : mb (betG (bW B) p c) (btw (bW B) p c k) = true := (mb_orB (by omega) (fun j hj => by have := hb j hj; omega)).mpr ⟨k, by omega, hk, rfl⟩
      rw [m] at a
      by_cases z2 : st (btw (bW B) p c k) = 0
      · simp [z2]
      · simp [z2, show btw (bW B) p c k < 36 from by omega] at a
        simp [a]
  · intro h u hu
    rw [mb_and, mb_and, mb_not _ hu, mb_allL st hu, mb_mkL B st 1 hu]
    cases m : mb (betG (bW B) p c) u with
    | false => rfl
    | true =>
      obtain ⟨j, h1, h2, h3⟩ := (mb_orB hu (fun j hj => by have := hb j hj; omega)).mp m
      have a := h j (List.mem_range.mpr h2)
      rw [h3] at a
      have z : ¬ j = 0 := by omega
      by_cases z2 : st u = 0
      · simp [z2]
      · simp [z, z2] at a
        simp [a, z2]
section
variable {Q : Option Value → xw → Prop} {w : xw} {B : Bd} {s : GS} {a b : Nat}
set_option maxHeartbeats 2000000 in
theorem x_isLine (hB : bOk B) (hE : XE B b w) (hP : XP a w) (hG : XG B s a w) (hs : sOk B (gS s)) {p c : Nat} (hp : p < bN B) (hc : c < bN B) (h1 : gS s p ≠ 0) (h2 : gS s c ≠ 0) (q : Q (some (.int (bI (lineG B (gS s) p c)))) w) : V_X5_isLine [.ref a, .int (nI p), .int (nI c)] w Q := by
  have hN := hB.2.2.2.2.1
  have hK := hB.2.2.2.2.2.1
  have ha := XP_ge hP
  have no : lineG B (gS s) p c = false → Q (some (.int (nI 0))) w := fun e => by rw [e] at q; exact q
  have yes : lineG B (gS s) p c = true → Q (some (.int (nI 1))) w := fun e => by rw [e] at q; exact q
  clear q
  obtain ⟨t1, t2, t3⟩ := hE.2.2.2.2.2.1.2.2 p (by omega)
  obtain ⟨u1, u2, u3⟩ := hE.2.2.2.2.2.2.2.2 p (by omega)
  have t1 : (xR w (xR w b 10) p = 0) = False := eq_false t1.1
  have u1 : (xR w (xR w b 11) p = 0) = False := eq_false u1.1
  have t3 := t3 c hp hc
  have u3 := u3 c hp hc
  have k1 := hG.2.2.2.2.2.1 p (by omega) h1
  have k2 := hG.2.2.2.2.2.1 c (by omega) h2
  have d1 := sOk_kd hs h1
  have d2 := sOk_kd hs h2
  have r1 := (hB.2.2.2.2.2.2.1 _ d1).1
  have r2 := (hB.2.2.2.2.2.2.1 _ d2).1
  have sl := stp_le hB.2.1 hB.2.2.2.1 (a := p) (b := c) (w := bW B) (h := bH B) hp hc
  have l4 := hG.2.2.2.2.2.2.2.1
  have l5 := hG.2.2.2.2.2.2.2.2.1
  have l6 := hG.2.2.2.2.2.2.2.2.2
  have e0 : (mkL B (gS s) 0 &&& (1 <<< (Int32.toInt64 (nI p) &&& 63) ||| 1 <<< (Int32.toInt64 (nI c) &&& 63)) = 0) ↔ _ := and_ends 0 (by omega) (by omega) h1 h2
  have e2 : (mkL B (gS s) 2 &&& (1 <<< (Int32.toInt64 (nI p) &&& 63) ||| 1 <<< (Int32.toInt64 (nI c) &&& 63)) = 0) ↔ _ := and_ends 2 (by omega) (by omega) h1 h2
  have e1 := btw_all (st := gS s) hN hp hc
  unfold lineG at no yes
  refine e_X5_isLine (r_X5_isLine_0 ?_)
  (try simp +decide (disch := omega) only [n_lit2, n_add, n_mul, n_tn, n_inT, n_ltT, n_ltF, n_leT, n_leF, n_eqT, n_eqF, n_eqm, n_meq, n_div, n_rem, nb_0, nb_1, nr_b, true_and, and_true, eq_self, Decidable.not_not, not_false_eq_true, not_true_eq_false, false_implies, true_implies, implies_true, Option.toList_some, Option.toList_none, List.cons_append, List.nil_append, xS_uI, xS_uL, xR_uI, xR_uL, xL_uI, xI_uL, xN_uI, xN_uL, xB_uI, xB_uL, add_nz, ge_256, and_self, XP_s hP, XP_r2 hP, XP_r3 hP, XP_r7 hP, XP_r8 hP, XP_r9 hP, XP_r11 hP, XP_r12 hP, XP_r13 hP, XP_s1 hP, XP_s2 hP, XP_s3 hP, XP_s4 hP, XP_s5 hP, XP_s6 hP, XP_s7 hP, XE_s hE, XE_b hE, XE_bs hE, XE_b0 hE, XE_t0 hE, XE_ts hE, t1, t2, t3, k1, l6, e2]); (try simp (disch := omega) only [lc_eq, lc_le, lc_lt, lc_ge, lc_gt, mb_t1, mb_t0, bI_0, bI_1, n_in, n_lt, n_le, n_eq, Bool.not_eq_false, Bool.not_eq_true, Decidable.not_not, true_and, XP_s hP, XP_r2 hP, XP_r3 hP, XP_r7 hP, XP_r8 hP, XP_r9 hP, XP_r11 hP, XP_r12 hP, XP_r13 hP, XP_s1 hP, XP_s2 hP, XP_s3 hP, XP_s4 hP, XP_s5 hP, XP_s6 hP, XP_s7 hP, XE_s hE, XE_b hE, XE_bs hE, XE_b0 hE, XE_t0 hE, XE_ts hE, t1, t2, t3, k1, l6, e2])
  refine ⟨fun c0 => no (by simp [c0]), fun c0 => ⟨fun c1 => no ?_, fun c1 => ?_⟩⟩
  · cases z1 : mkG B (gS s) p 2 <;> cases z2 : mkG B (gS s) c 2 <;> simp_all
  refine x_kind hK hE d1 (fun q1 q2 q3 _ => r_X5_isLine_58 ?_)
  (try simp +decide (disch := omega) only [n_lit2, n_add, n_mul, n_tn, n_inT, n_ltT, n_ltF, n_leT, n_leF, n_eqT, n_eqF, n_eqm, n_meq, n_div, n_rem, nb_0, nb_1, nr_b, true_and, and_true, eq_self, Decidable.not_not, not_false_eq_true, not_true_eq_false, false_implies, true_implies, implies_true, Option.toList_some, Option.toList_none, List.cons_append, List.nil_append, xS_uI, xS_uL, xR_uI, xR_uL, xL_uI, xI_uL, xN_uI, xN_uL, xB_uI, xB_uL, add_nz, ge_256, and_self, XP_s hP, XP_r2 hP, XP_r3 hP, XP_r7 hP, XP_r8 hP, XP_r9 hP, XP_r11 hP, XP_r12 hP, XP_r13 hP, XP_s1 hP, XP_s2 hP, XP_s3 hP, XP_s4 hP, XP_s5 hP, XP_s6 hP, XP_s7 hP, XE_s hE, XE_b hE, XE_bs hE, XE_b0 hE, q1, q2, q3, k2]); (try simp (disch := omega) only [lc_eq, lc_le, lc_lt, lc_ge, lc_gt, mb_t1, mb_t0, bI_0, bI_1, n_in, n_lt, n_le, n_eq, Bool.not_eq_false, Bool.not_eq_true, Decidable.not_not, true_and, XP_s hP, XP_r2 hP, XP_r3 hP, XP_r7 hP, XP_r8 hP, XP_r9 hP, XP_r11 hP, XP_r12 hP, XP_r13 hP, XP_s1 hP, XP_s2 hP, XP_s3 hP, XP_s4 hP, XP_s5 hP, XP_s6 hP, XP_s7 hP, XE_s hE, XE_b hE, XE_bs hE, XE_b0 hE, q1, q2, q3, k2])
  refine ⟨fun c2 => no ?_, fun c2 => ?_⟩
  · rw [decide_eq_false (show ¬ stp (bW B) p c ≤ bR B (kdG (gS s) p) by omega)]; simp
  refine x_kind hK hE d2 (fun q1 q2 q3 _ => r_X5_isLine_82 ?_)
  (try simp +decide (disch := omega) only [n_lit2, n_add, n_mul, n_tn, n_inT, n_ltT, n_ltF, n_leT, n_leF, n_eqT, n_eqF, n_eqm, n_meq, n_div, n_rem, nb_0, nb_1, nr_b, true_and, and_true, eq_self, Decidable.not_not, not_false_eq_true, not_true_eq_false, false_implies, true_implies, implies_true, Option.toList_some, Option.toList_none, List.cons_append, List.nil_append, xS_uI, xS_uL, xR_uI, xR_uL, xL_uI, xI_uL, xN_uI, xN_uL, xB_uI, xB_uL, add_nz, ge_256, and_self, XP_s hP, XP_r2 hP, XP_r3 hP, XP_r7 hP, XP_r8 hP, XP_r9 hP, XP_r11 hP, XP_r12 hP, XP_r13 hP, XP_s1 hP, XP_s2 hP, XP_s3 hP, XP_s4 hP, XP_s5 hP, XP_s6 hP, XP_s7 hP, XE_s hE, XE_b hE, XE_bs hE, XE_b0 hE, XE_u0 hE, XE_us hE, u1, u2, u3, q1, q2, q3, l4, e0]); (try simp (disch := omega) only [lc_eq, lc_le, lc_lt, lc_ge, lc_gt, mb_t1, mb_t0, bI_0, bI_1, n_in, n_lt, n_le, n_eq, Bool.not_eq_false, Bool.not_eq_true, Decidable.not_not, true_and, XP_s hP, XP_r2 hP, XP_r3 hP, XP_r7 hP, XP_r8 hP, XP_r9 hP, XP_r11 hP, XP_r12 hP, XP_r13 hP, XP_s1 hP, XP_s2 hP, XP_s3 hP, XP_s4 hP, XP_s5 hP, XP_s6 hP, XP_s7 hP, XE_s hE, XE_b hE, XE_bs hE, XE_b0 hE, XE_u0 hE, XE_us hE, u1, u2, u3, q1, q2, q3, l4, e0])
  have base : (decide (stp (bW B) p c ≠ 0) && !mkG B (gS s) p 2 && !mkG B (gS s) c 2 && decide (stp (bW B) p c ≤ bR B (kdG (gS s) p))) = true := by simp [c0, c1]; omega
  rw [base, Bool.true_and] at no yes
  refine ⟨fun c3 => ?_, fun c3 => no ?_⟩
  · rw [decide_eq_true c3, Bool.true_and] at no yes
    refine ⟨fun c4 => yes ?_, fun c4 => ?_⟩
    · cases z1 : mkG B (gS s) p 0 <;> cases z2 : mkG B (gS s) c 0 <;> simp_all
    · rw [c4.1, c4.2, Bool.false_or, Bool.false_or] at no yes
      refine x_all hP hG (r_X5_isLine_119 ?_)
      (try simp +decide (disch := omega) only [n_lit2, n_add, n_mul, n_tn, n_inT, n_ltT, n_ltF, n_leT, n_leF, n_eqT, n_eqF, n_eqm, n_meq, n_div, n_rem, nb_0, nb_1, nr_b, true_and, and_true, eq_self, Decidable.not_not, not_false_eq_true, not_true_eq_false, false_implies, true_implies, implies_true, Option.toList_some, Option.toList_none, List.cons_append, List.nil_append, xS_uI, xS_uL, xR_uI, xR_uL, xL_uI, xI_uL, xN_uI, xN_uL, xB_uI, xB_uL, add_nz, ge_256, and_self, XP_s hP, XP_r2 hP, XP_r3 hP, XP_r7 hP, XP_r8 hP, XP_r9 hP, XP_r11 hP, XP_r12 hP, XP_r13 hP, XP_s1 hP, XP_s2 hP, XP_s3 hP, XP_s4 hP, XP_s5 hP, XP_s6 hP, XP_s7 hP, l5, e1]); (try simp (disch := omega) only [lc_eq, lc_le, lc_lt, lc_ge, lc_gt, mb_t1, mb_t0, bI_0, bI_1, n_in, n_lt, n_le, n_eq, Bool.not_eq_false, Bool.not_eq_true, Decidable.not_not, true_and, XP_s hP, XP_r2 hP, XP_r3 hP, XP_r7 hP, XP_r8 hP, XP_r9 hP, XP_r11 hP, XP_r12 hP, XP_r13 hP, XP_s1 hP, XP_s2 hP, XP_s3 hP, XP_s4 hP, XP_s5 hP, XP_s6 hP, XP_s7 hP, l5, e1])
      refine ⟨fun c5 => no ?_, fun c5 => yes ?_⟩
      · exact c5
      · exact c5
  · rw [decide_eq_false (show ¬ stp (bW B) p c ≤ bR B (kdG (gS s) c) by omega)]; simp
end
theorem rowE_skip {B : Bd} {st : Nat → Nat} {side a k c : Nat} (hkc : k ≤ c) (h : ∀ j, k ≤ j → j < c → isOfG st j side = false) : rowE B st side a c = rowE B st side a k := by
  induction c with
  | zero => rw [show k = 0 from by omega]
  | succ c ih =>
    by_cases e : k = c + 1
    · rw [e]
    · conv => lhs; unfold rowE
      rw [h c (by omega) (by omega)]
      simp
      exact ih (by omega) (fun j h1 h2 => h j h1 (by omega))
theorem allE_skip {B : Bd} {st : Nat → Nat} {side k c : Nat} (hkc : k ≤ c) (h : ∀ j, k ≤ j → j < c → isOfG st j side = false) : allE B st side c = allE B st side k := by
  induction c with
  | zero => rw [show k = 0 from by omega]
  | succ c ih =>
    by_cases e : k = c + 1
    · rw [e]
    · conv => lhs; unfold allE
      rw [h c (by omega) (by omega)]
      simp
      exact ih (by omega) (fun j h1 h2 => h j h1 (by omega))
/-- a stone's own bit lies in the edge -/
theorem allE_own {B : Bd} {st : Nat → Nat} {side : Nat} {n p : Nat} (hn : n ≤ 64) (hp : p < n) (h : isOfG st p side = true) : mb (allE B st side n).1 p = true := by
  induction n with
  | zero => omega
  | succ n ih =>
    unfold allE
    by_cases e : p = n
    · subst e
      rw [if_pos h, mb_or, mb_or, mb_b1 (by omega) (by omega)]; simp
    · have := ih (by omega) (by omega)
      split
      · rw [mb_or, mb_or, this]; simp
      · exact this
theorem stL_in {B : Bd} {st : Nat → Nat} {side : Nat} (hN : bN B ≤ 36) (h0 : ∀ p, bN B ≤ p → st p = 0) : stL st side ||| (allE B st side (bN B)).1 = (allE B st side (bN B)).1 := by
  apply mb_ext
  intro p hp
  rw [mb_or]
  cases m : mb (stL st side) p with
  | false => rfl
  | true =>
    rw [mb_stL st side hp] at m
    have m2 : isOfG st p side = true := by
      cases z : isOfG st p side <;> simp_all
    have hl : p < bN B := by
      rcases Nat.lt_or_ge p (bN B) with h | h
      · exact h
      · have := isOf_ne m2; exact absurd (h0 p h) this
    rw [allE_own (by omega) hl m2]; rfl
section
variable {Q : Option Value → xw → Prop} {w : xw} {B : Bd} {s : GS} {a b : Nat}
set_option maxHeartbeats 2000000 in
theorem x_edge (hB : bOk B ∨ bN B = 0) (hE : XE B b w) (hP : XP a w) (hG : XG B s a w) (hs : sOk B (gS s)) (h0 : ∀ p, bN B ≤ p → gS s p = 0) {side : Nat} (h2 : side < 2)
    (q : ∀ w', xfr a a w w' → XG B s a w' → xI w' a 10 = nI (linesG B (gS s) side) → Q (some (.long (edgeL B (gS s) side))) w') : V_X5_edge [.ref a, .int (nI side)] w Q := by
  have hN : bN B ≤ 36 := bN36 hB
  have ha := XP_ge hP
  have e1 := hG.2.2.2.1 side h2
  have hg10 : ∀ (w' : xw), xfr a a w w' → xL w' = xL w → (∀ k, k ≠ 10 → xI w' a k = xI w a k) → XG B s a w' := fun w' f hL hI => by
    obtain ⟨g1, g2, g3, g4, g5, g6, g7, g8, g9, g10⟩ := hG
    refine ⟨by rw [hI 0 (by omega)]; exact g1, by rw [hI 1 (by omega)]; exact g2, by rw [hL]; exact g3, by rw [hL]; exact g4, by rw [hL]; exact g5, by rw [(f.2.2.2 (a + 3) (by omega)).1]; exact g6, by rw [(f.2.2.2 (a + 4) (by omega)).1]; exact g7, by rw [hL]; exact g8, by rw [hL]; exact g9, by rw [hL]; exact g10⟩
  have bnd : ∀ p, isOfG (gS s) p side = true → p < bN B := fun p hp => by
    rcases Nat.lt_or_ge p (bN B) with h | h
    · exact h
    · exact absurd (h0 p h) (isOf_ne hp)
  have ms : ∀ p, p < 64 → (mb (stL (gS s) side) p = true ↔ isOfG (gS s) p side = true) := fun p hp => by
    rw [mb_stL _ _ hp]
    constructor
    · intro z; cases y : isOfG (gS s) p side <;> simp_all
    · intro z; have := bnd p z; simp [z]; omega
  have main : ∀ (f k : Nat) (left : Int64) (w1 : xw), k + f = 64 → (∀ p, p < 64 → mb left p = (mb (stL (gS s) side) p && decide (k ≤ p))) → xfr a a w w1 → xL w1 = xL w → (∀ k, k ≠ 10 → xI w1 a k = xI w a k) → xI w1 a 10 = nI (allE B (gS s) side k).2 →
      ∀ {o1 o3 o5 o6 o7 o8 o9 : Option Value}, T_X5_edge Q 15 [some (.ref a), o1, some (.long (stL (gS s) side ||| (allE B (gS s) side k).1)), o3, some (.long left), o5, o6, o7, o8, o9] [] w1 := by
    intro f
    induction f using Nat.strongRecOn with
    | _ f ih =>
      intro k left w1 hf hl f1 hL hI hn o1 o3 o5 o6 o7 o8 o9
      have fin : (∀ j, k ≤ j → isOfG (gS s) j side = false) → allE B (gS s) side k = allE B (gS s) side (bN B) := fun hz => by
        rcases Nat.lt_or_ge k (bN B) with h | h
        · exact (allE_skip (by omega) (fun j h1 _ => hz j h1)).symm
        · exact allE_skip h (fun j h1 h2 => by
            cases z : isOfG (gS s) j side with
            | false => rfl
            | true => have := bnd j z; omega)
      refine r_X5_edge_15 ⟨fun c => ⟨rfl, ?_⟩, fun c => ?_⟩
      · rw [lg_cmp_eq, mb_zero] at c
        have hz : ∀ j, k ≤ j → isOfG (gS s) j side = false := fun j hj => by
          cases z : isOfG (gS s) j side with
          | false => rfl
          | true =>
            have := bnd j z
            have c1 := c j (by omega)
            rw [hl j (by omega), (ms j (by omega)).mpr z] at c1
            simp at c1; omega
        rw [fin hz, stL_in hN h0]
        rw [fin hz] at hn
        exact q w1 f1 (hg10 w1 f1 hL hI) hn
      · rw [lg_cmp_eq] at c
        obtain ⟨u, hu1, hu2, hu3⟩ := lowB c
        have hu4 : isOfG (gS s) u side = true ∧ k ≤ u := by
          rw [hl u hu1] at hu2
          simp at hu2
          exact ⟨(ms u hu1).mp hu2.1, hu2.2⟩
        have hub := bnd u hu4.1
        have hz : ∀ j, k ≤ j → j < u → isOfG (gS s) j side = false := fun j h1 h2 => by
          cases z : isOfG (gS s) j side with
          | false => rfl
          | true =>
            have c1 := hu3 j h2
            rw [hl j (by omega), (ms j (by omega)).mpr z] at c1
            simp at c1; omega
        have eu := allE_skip (B := B) hu4.2 hz
        have hB1 : bOk B := by
          rcases hB with h | h
          · exact h
          · omega
        refine x_ntz hu1 hu2 hu3 (r_X5_edge_27 ?_)
        have dl : ∀ p, p < 64 → mb (left &&& (left - 1)) p = (mb (stL (gS s) side) p && decide (u + 1 ≤ p)) := fun p hp => by
          rw [mb_drop hu2 hu3, hl p hp]
          by_cases z1 : u + 1 ≤ p
          · simp [z1, show p ≠ u from by omega, show k ≤ p from by omega]
          · by_cases z2 : p = u
            · subst z2; simp
            · have := hu3 p (by omega)
              rw [hl p hp] at this
              rw [this]; simp [z1]
        have inner : ∀ (f2 c : Nat) (more : Int64) (w2 : xw), c + f2 = 64 → u < c → (∀ p, p < 64 → mb more p = (mb (stL (gS s) side) p && decide (c ≤ p))) → xfr a a w w2 → xL w2 = xL w → (∀ k, k ≠ 10 → xI w2 a k = xI w a k) → xI w2 a 10 = nI ((allE B (gS s) side u).2 + (rowE B (gS s) side u c).2) →
            ∀ {o1 o3 o5 o8 o9 : Option Value}, T_X5_edge Q 38 [some (.ref a), o1, some (.long (stL (gS s) side ||| (allE B (gS s) side u).1 ||| (rowE B (gS s) side u c).1)), o3, some (.long left), o5, some (.int (nI u)), some (.long more), o8, o9] [] w2 := by
          intro f2
          induction f2 using Nat.strongRecOn with
          | _ f2 ih2 =>
            intro c more w2 hf2 huc hm g1 gL gI gn o1 o3 o5 o8 o9
            have hG2 := hg10 w2 g1 gL gI
            have hE2 := XE_fr g1 (by omega) hE
            have hP2 := XP_fr g1 hP
            refine r_X5_edge_38 ⟨fun cc => ?_, fun cc => ?_⟩
            · rw [lg_cmp_eq, mb_zero] at cc
              have hz2 : ∀ j, c ≤ j → isOfG (gS s) j side = false := fun j hj => by
                cases z : isOfG (gS s) j side with
                | false => rfl
                | true =>
                  have := bnd j z
                  have c1 := cc j (by omega)
                  rw [hm j (by omega), (ms j (by omega)).mpr z] at c1
                  simp at c1; omega
              have er : rowE B (gS s) side u c = rowE B (gS s) side u (bN B) := by
                rcases Nat.lt_or_ge c (bN B) with h | h
                · exact (rowE_skip (by omega) (fun j h1 _ => hz2 j h1)).symm
                · exact rowE_skip h (fun j h1 h2 => by
                    cases z : isOfG (gS s) j side with
                    | false => rfl
                    | true => have := bnd j z; omega)
              have ea : allE B (gS s) side (u + 1) = ((allE B (gS s) side u).1 ||| b1 u ||| (rowE B (gS s) side u (bN B)).1, (allE B (gS s) side u).2 + (rowE B (gS s) side u (bN B)).2) := by
                conv => lhs; unfold allE
                rw [if_pos hu4.1]
              have eb : stL (gS s) side ||| (allE B (gS s) side u).1 ||| (rowE B (gS s) side u c).1 = stL (gS s) side ||| (allE B (gS s) side (u + 1)).1 := by
                rw [ea, er]
                apply mb_ext
                intro p hp
                rw [mb_or, mb_or, mb_or, mb_or, mb_or, mb_b1 (by omega) hp]
                by_cases z : p = u
                · subst z; rw [(ms p hp).mpr hu4.1]; simp
                · simp [z, Bool.or_assoc]
              rw [eb]
              refine ih (64 - (u + 1)) (by omega) (u + 1) _ w2 (by omega) dl g1 gL gI ?_
              rw [gn, ea, er]
            · rw [lg_cmp_eq] at cc
              obtain ⟨v, hv1, hv2, hv3⟩ := lowB cc
              have hv4 : isOfG (gS s) v side = true ∧ c ≤ v := by
                rw [hm v hv1] at hv2
                simp at hv2
                exact ⟨(ms v hv1).mp hv2.1, hv2.2⟩
              have hvb := bnd v hv4.1
              have hz2 : ∀ j, c ≤ j → j < v → isOfG (gS s) j side = false := fun j h1 h2 => by
                cases z : isOfG (gS s) j side with
                | false => rfl
                | true =>
                  have c1 := hv3 j h2
                  rw [hm j (by omega), (ms j (by omega)).mpr z] at c1
                  simp at c1; omega
              have ev := rowE_skip (B := B) (a := u) hv4.2 hz2
              have dm : ∀ p, p < 64 → mb (more &&& (more - 1)) p = (mb (stL (gS s) side) p && decide (v + 1 ≤ p)) := fun p hp => by
                rw [mb_drop hv2 hv3, hm p hp]
                by_cases z1 : v + 1 ≤ p
                · simp [z1, show p ≠ v from by omega, show c ≤ p from by omega]
                · by_cases z2 : p = v
                  · subst z2; simp
                  · have := hv3 p (by omega)
                    rw [hm p hp] at this
                    rw [this]; simp [z1]
              have rl := rowE_le B (gS s) side u v
              have al := allE_le B (gS s) side u
              have al2 : u * bN B ≤ 36 * 36 := Nat.mul_le_mul (by omega) hN
              refine x_ntz hv1 hv2 hv3 (r_X5_edge_50 ⟨XP_s hP2, x_isLine hB1 hE2 hP2 hG2 hs hub hvb (isOf_ne hu4.1) (isOf_ne hv4.1) (r_X5_edge_60 ?_)⟩)
              obtain ⟨u1, u2, u3⟩ := hE2.2.2.2.2.2.2.2.2 u (by omega)
              have u1 : (xR w2 (xR w2 b 11) u = 0) = False := eq_false u1.1
              have u3 := u3 v hub hvb
              have gn' : xI w2 a 10 = nI ((allE B (gS s) side u).2 + (rowE B (gS s) side u v).2) := by rw [gn, ev]
              (try simp +decide (disch := omega) only [n_lit2, n_add, n_mul, n_tn, n_inT, n_ltT, n_ltF, n_leT, n_leF, n_eqT, n_eqF, n_eqm, n_meq, n_div, n_rem, nb_0, nb_1, nr_b, true_and, and_true, eq_self, Decidable.not_not, not_false_eq_true, not_true_eq_false, false_implies, true_implies, implies_true, Option.toList_some, Option.toList_none, List.cons_append, List.nil_append, xS_uI, xS_uL, xR_uI, xR_uL, xL_uI, xI_uL, xN_uI, xN_uL, xB_uI, xB_uL, add_nz, ge_256, and_self, XP_s hP2, XP_r2 hP2, XP_r3 hP2, XP_r7 hP2, XP_r8 hP2, XP_r9 hP2, XP_r11 hP2, XP_r12 hP2, XP_r13 hP2, XP_s1 hP2, XP_s2 hP2, XP_s3 hP2, XP_s4 hP2, XP_s5 hP2, XP_s6 hP2, XP_s7 hP2, XE_s hE2, XE_b hE2, XE_bs hE2, XE_b0 hE2, XE_u0 hE2, XE_us hE2, u1, u2, u3, gn']); (try simp (disch := omega) only [lc_eq, lc_le, lc_lt, lc_ge, lc_gt, mb_t1, mb_t0, bI_0, bI_1, n_in, n_lt, n_le, n_eq, Bool.not_eq_false, Bool.not_eq_true, Decidable.not_not, true_and, XP_s hP2, XP_r2 hP2, XP_r3 hP2, XP_r7 hP2, XP_r8 hP2, XP_r9 hP2, XP_r11 hP2, XP_r12 hP2, XP_r13 hP2, XP_s1 hP2, XP_s2 hP2, XP_s3 hP2, XP_s4 hP2, XP_s5 hP2, XP_s6 hP2, XP_s7 hP2, XE_s hE2, XE_b hE2, XE_bs hE2, XE_b0 hE2, XE_u0 hE2, XE_us hE2, u1, u2, u3, gn'])
              refine ⟨fun c3 => ?_, fun c3 => ?_⟩
              · have rE : rowE B (gS s) side u (v + 1) = ((rowE B (gS s) side u v).1 ||| betG (bW B) u v, (rowE B (gS s) side u v).2 + 1) := by
                  conv => lhs; unfold rowE
                  simp [c3, hv4.1, show u < v from by omega]
                have e9 : stL (gS s) side ||| (allE B (gS s) side u).1 ||| (rowE B (gS s) side u c).1 ||| betG (bW B) u v = stL (gS s) side ||| (allE B (gS s) side u).1 ||| (rowE B (gS s) side u (v + 1)).1 := by
                  rw [rE, ← ev, Int64.or_assoc]
                rw [e9]
                refine ih2 (64 - (v + 1)) (by omega) (v + 1) _ _ (by omega) (by omega) dm (xfr_tI g1 (by omega)) gL (fun k hk => ?_) ?_
                · rw [x_uI, if_neg (by omega)]; exact gI k hk
                · rw [x_uI, if_pos ⟨rfl, rfl⟩, rE]
                  show nI _ = nI _
                  congr 1
              · have rE : rowE B (gS s) side u (v + 1) = rowE B (gS s) side u v := by
                  conv => lhs; unfold rowE
                  simp [c3]
                have e9 : stL (gS s) side ||| (allE B (gS s) side u).1 ||| (rowE B (gS s) side u c).1 = stL (gS s) side ||| (allE B (gS s) side u).1 ||| (rowE B (gS s) side u (v + 1)).1 := by
                  rw [rE, ev]
                rw [e9]
                refine ih2 (64 - (v + 1)) (by omega) (v + 1) _ w2 (by omega) (by omega) dm g1 gL gI ?_
                rw [gn', rE]
        have er0 := rowE_0 B (gS s) side u (b := u + 1) (by omega)
        have e9 : stL (gS s) side ||| (allE B (gS s) side k).1 = stL (gS s) side ||| (allE B (gS s) side u).1 ||| (rowE B (gS s) side u (u + 1)).1 := by
          rw [er0, eu, Int64.or_zero]
        rw [e9]
        refine inner (64 - (u + 1)) (u + 1) _ w1 (by omega) (by omega) dl f1 hL hI ?_
        rw [hn, er0, eu]; rfl
  refine e_X5_edge (r_X5_edge_0 ?_)
  (try simp +decide (disch := omega) only [n_lit2, n_add, n_mul, n_tn, n_inT, n_ltT, n_ltF, n_leT, n_leF, n_eqT, n_eqF, n_eqm, n_meq, n_div, n_rem, nb_0, nb_1, nr_b, true_and, and_true, eq_self, Decidable.not_not, not_false_eq_true, not_true_eq_false, false_implies, true_implies, implies_true, Option.toList_some, Option.toList_none, List.cons_append, List.nil_append, xS_uI, xS_uL, xR_uI, xR_uL, xL_uI, xI_uL, xN_uI, xN_uL, xB_uI, xB_uL, add_nz, ge_256, and_self, XP_s hP, XP_r2 hP, XP_r3 hP, XP_r7 hP, XP_r8 hP, XP_r9 hP, XP_r11 hP, XP_r12 hP, XP_r13 hP, XP_s1 hP, XP_s2 hP, XP_s3 hP, XP_s4 hP, XP_s5 hP, XP_s6 hP, XP_s7 hP, e1]); (try simp (disch := omega) only [lc_eq, lc_le, lc_lt, lc_ge, lc_gt, mb_t1, mb_t0, bI_0, bI_1, n_in, n_lt, n_le, n_eq, Bool.not_eq_false, Bool.not_eq_true, Decidable.not_not, true_and, XP_s hP, XP_r2 hP, XP_r3 hP, XP_r7 hP, XP_r8 hP, XP_r9 hP, XP_r11 hP, XP_r12 hP, XP_r13 hP, XP_s1 hP, XP_s2 hP, XP_s3 hP, XP_s4 hP, XP_s5 hP, XP_s6 hP, XP_s7 hP, e1])
  have e9 : stL (gS s) side = stL (gS s) side ||| (allE B (gS s) side 0).1 := by
    have : (allE B (gS s) side 0).1 = 0 := rfl
    rw [this, Int64.or_zero]
  have m0 : ∀ {o1 o3 o5 o6 o7 o8 o9 : Option Value}, T_X5_edge Q 15 [some (.ref a), o1, some (.long (stL (gS s) side ||| (allE B (gS s) side 0).1)), o3, some (.long (stL (gS s) side)), o5, o6, o7, o8, o9] [] (xUpI w a 10 (nI 0)) :=
    main 64 0 _ _ (by omega) (fun p hp => by simp) (xfr_uI w _ _ (by omega)) rfl (fun k hk => by rw [x_uI, if_neg (by omega)]) (by rw [x_uI, if_pos ⟨rfl, rfl⟩]; rfl)
  rw [← e9] at m0
  exact m0
end
