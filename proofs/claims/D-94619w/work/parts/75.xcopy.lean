/-! X: copies, an empty state -/
theorem x_uI_ne {w : xw} {a k : Nat} {v : Int32} {i : Nat} (h : i ≠ a) : xI (xUpI w a k v) i = xI w i := (xUpI_ne w a k v i h).1
theorem x_uL_ne {w : xw} {a k : Nat} {v : Int64} {i : Nat} (h : i ≠ a) : xL (xUpL w a k v) i = xL w i := (xUpL_ne w a k v i h).2.1
section
variable {Q : Option Value → xw → Prop} {w : xw} {B : Bd} {s : GS} {a c b : Nat}
set_option maxHeartbeats 2000000 in
theorem x_copy (hP : XP a w) (hC : XP c w) (hac : a + 7 < c ∨ c + 7 < a) (hG : XG B s c w) (h16 : (gO s).length ≤ 16)
    (q : ∀ w', xfr a (a + 5) w w' → XG B s a w' → Q none w') : V_X5_copy [.ref a, .ref c] w Q := by
  have ha := XP_ge hP
  have hc := XP_ge hC
  obtain ⟨g1, g2, g3, g4, g5, g6, g7, g8, g9, g10⟩ := id hG
  refine e_X5_copy (r_X5_copy_0 ?_)
  (try simp +decide (disch := omega) only [n_lit2, n_add, n_mul, n_tn, n_inT, n_ltT, n_ltF, n_leT, n_leF, n_eqT, n_eqF, n_eqm, n_meq, n_div, n_rem, nb_0, nb_1, nr_b, true_and, and_true, eq_self, Decidable.not_not, not_false_eq_true, not_true_eq_false, false_implies, true_implies, implies_true, Option.toList_some, Option.toList_none, List.cons_append, List.nil_append, xS_uI, xS_uL, xR_uI, xR_uL, xL_uI, xI_uL, xN_uI, xN_uL, xB_uI, xB_uL, add_nz, ge_256, and_self, XP_s hP, XP_s hC, x_uI_ne, x_uL_ne, g1, g2, g8, g9, g10]); (try simp (disch := omega) only [lc_eq, lc_le, lc_lt, lc_ge, lc_gt, mb_t1, mb_t0, bI_0, bI_1, n_in, n_lt, n_le, n_eq, Bool.not_eq_false, Bool.not_eq_true, Decidable.not_not, true_and, XP_s hP, XP_s hC, x_uI_ne, x_uL_ne, g1, g2, g8, g9, g10])
  generalize hw1 : xUpL (xUpL (xUpL (xUpI (xUpI w a 0 (nI (gD s))) a 1 (nI (gO s).length)) a 4 (mkL B (gS s) 0)) a 5 (mkL B (gS s) 1)) a 6 (mkL B (gS s) 2) = w1
  have f1 : xfr a (a + 5) w w1 := by
    rw [← hw1]
    exact xfr_tL (xfr_tL (xfr_tL (xfr_tI (xfr_tI (xfr_refl _ _ w) (by omega)) (by omega)) (by omega)) (by omega)) (by omega)
  have b1 : xI w1 a 0 = nI (gD s) := by rw [← hw1, xI_uL, xI_uL, xI_uL, x_uI, if_neg (by omega), x_uI, if_pos ⟨rfl, rfl⟩]
  have b2 : xI w1 a 1 = nI (gO s).length := by rw [← hw1, xI_uL, xI_uL, xI_uL, x_uI, if_pos ⟨rfl, rfl⟩]
  have b3 : xL w1 a 4 = mkL B (gS s) 0 := by rw [← hw1, x_uL, if_neg (by omega), x_uL, if_neg (by omega), x_uL, if_pos ⟨rfl, rfl⟩]
  have b4 : xL w1 a 5 = mkL B (gS s) 1 := by rw [← hw1, x_uL, if_neg (by omega), x_uL, if_pos ⟨rfl, rfl⟩]
  have b5 : xL w1 a 6 = mkL B (gS s) 2 := by rw [← hw1, x_uL, if_pos ⟨rfl, rfl⟩]
  clear hw1
  have third : ∀ w0 : xw, xfr a (a + 5) w w0 → xI w0 a 0 = nI (gD s) → xI w0 a 1 = nI (gO s).length → xL w0 a = xL w1 a → (∀ x, x < 2 → xL w0 (a + 1) x = stL (gS s) x ∧ xL w0 (a + 2) x = ldL (gL s) x) → (∀ p, p < 36 → xI w0 (a + 3) p = xI w (c + 3) p ∧ xI w0 (a + 4) p = xI w (c + 4) p) → T_X5_copy Q 117 [some (.ref a), some (.ref c), some (.int (nI 0))] [] w0 := by
    intro w0 f0 d1 d2 d3 d4 d5
    refine upTo (gO s).length (fun k (w2 : xw) => xfr a (a + 5) w w2 ∧ xI w2 = xI w0 ∧ (∀ i, i ≠ a + 5 → xL w2 i = xL w0 i) ∧ ∀ j, j < k → xL w2 (a + 5) j = (gO s).getD j 0)
      (fun k w2 => T_X5_copy Q 117 [some (.ref a), some (.ref c), some (.int (nI k))] [] w2) ?_ ?_ 0 w0 (by omega) ⟨f0, rfl, fun _ _ => rfl, fun j hj => by omega⟩
    · intro w2 ⟨f2, i2, l2, o2⟩
      have hP2 := XP_fr f2 hP
      have r1 : xI w2 a 1 = nI (gO s).length := by rw [i2]; exact d2
      refine r_X5_copy_117 ?_
      (try simp +decide (disch := omega) only [n_lit2, n_add, n_mul, n_tn, n_inT, n_ltT, n_ltF, n_leT, n_leF, n_eqT, n_eqF, n_eqm, n_meq, n_div, n_rem, nb_0, nb_1, nr_b, true_and, and_true, eq_self, Decidable.not_not, not_false_eq_true, not_true_eq_false, false_implies, true_implies, implies_true, Option.toList_some, Option.toList_none, List.cons_append, List.nil_append, xS_uI, xS_uL, xR_uI, xR_uL, xL_uI, xI_uL, xN_uI, xN_uL, xB_uI, xB_uL, add_nz, ge_256, and_self, XP_s hP2, r1]); (try simp (disch := omega) only [lc_eq, lc_le, lc_lt, lc_ge, lc_gt, mb_t1, mb_t0, bI_0, bI_1, n_in, n_lt, n_le, n_eq, Bool.not_eq_false, Bool.not_eq_true, Decidable.not_not, true_and, XP_s hP2, r1])
      refine q w2 f2 ⟨by rw [i2]; exact d1, r1, fun k v hv => ?_, fun x hx => by rw [l2 _ (by omega)]; exact (d4 x hx).1, fun x hx => by rw [l2 _ (by omega)]; exact (d4 x hx).2, fun p hp hn => by rw [i2, (d5 p hp).1]; exact g6 p hp hn, fun p hp => by rw [i2, (d5 p hp).2]; exact g7 p hp, by rw [l2 _ (by omega), d3]; exact b3, by rw [l2 _ (by omega), d3]; exact b4, by rw [l2 _ (by omega), d3]; exact b5⟩
      have hk : k < (gO s).length := by
        rcases Nat.lt_or_ge k (gO s).length with h | h
        · exact h
        · rw [List.getElem?_eq_none h] at hv; cases hv
      rw [o2 k hk, List.getD_eq_getElem?_getD, hv]; rfl
    · intro k w2 hk ⟨f2, i2, l2, o2⟩ next
      have hP2 := XP_fr f2 hP
      have hC2 := XP_fr f2 hC
      have r1 : xI w2 a 1 = nI (gO s).length := by rw [i2]; exact d2
      have r2 : xL w2 (c + 5) k = (gO s).getD k 0 := by rw [(f2.2.2.2 (c + 5) (by omega)).2]; exact lsL_get g3 hk
      refine r_X5_copy_117 ?_
      (try simp +decide (disch := omega) only [n_lit2, n_add, n_mul, n_tn, n_inT, n_ltT, n_ltF, n_leT, n_leF, n_eqT, n_eqF, n_eqm, n_meq, n_div, n_rem, nb_0, nb_1, nr_b, true_and, and_true, eq_self, Decidable.not_not, not_false_eq_true, not_true_eq_false, false_implies, true_implies, implies_true, Option.toList_some, Option.toList_none, List.cons_append, List.nil_append, xS_uI, xS_uL, xR_uI, xR_uL, xL_uI, xI_uL, xN_uI, xN_uL, xB_uI, xB_uL, add_nz, ge_256, and_self, XP_s hP2, XP_r2 hP2, XP_r3 hP2, XP_r7 hP2, XP_r8 hP2, XP_r9 hP2, XP_r11 hP2, XP_r12 hP2, XP_r13 hP2, XP_s1 hP2, XP_s2 hP2, XP_s3 hP2, XP_s4 hP2, XP_s5 hP2, XP_s6 hP2, XP_s7 hP2, XP_s hC2, XP_r2 hC2, XP_r3 hC2, XP_r7 hC2, XP_r8 hC2, XP_r9 hC2, XP_r11 hC2, XP_r12 hC2, XP_r13 hC2, XP_s1 hC2, XP_s2 hC2, XP_s3 hC2, XP_s4 hC2, XP_s5 hC2, XP_s6 hC2, XP_s7 hC2, r1, r2]); (try simp (disch := omega) only [lc_eq, lc_le, lc_lt, lc_ge, lc_gt, mb_t1, mb_t0, bI_0, bI_1, n_in, n_lt, n_le, n_eq, Bool.not_eq_false, Bool.not_eq_true, Decidable.not_not, true_and, XP_s hP2, XP_r2 hP2, XP_r3 hP2, XP_r7 hP2, XP_r8 hP2, XP_r9 hP2, XP_r11 hP2, XP_r12 hP2, XP_r13 hP2, XP_s1 hP2, XP_s2 hP2, XP_s3 hP2, XP_s4 hP2, XP_s5 hP2, XP_s6 hP2, XP_s7 hP2, XP_s hC2, XP_r2 hC2, XP_r3 hC2, XP_r7 hC2, XP_r8 hC2, XP_r9 hC2, XP_r11 hC2, XP_r12 hC2, XP_r13 hC2, XP_s1 hC2, XP_s2 hC2, XP_s3 hC2, XP_s4 hC2, XP_s5 hC2, XP_s6 hC2, XP_s7 hC2, r1, r2])
      refine next _ ⟨xfr_tL f2 (by omega), i2, fun i hi => ?_, fun j hj => ?_⟩
      · rw [x_uL_ne hi]; exact l2 i hi
      · rw [x_uL]
        by_cases z : j = k
        · rw [if_pos ⟨rfl, z⟩, z]
        · rw [if_neg (by omega)]; exact o2 j (by omega)
  have second : ∀ w0 : xw, xfr a (a + 5) w w0 → xI w0 a = xI w1 a → xL w0 a = xL w1 a → (∀ x, x < 2 → xL w0 (a + 1) x = stL (gS s) x ∧ xL w0 (a + 2) x = ldL (gL s) x) → T_X5_copy Q 79 [some (.ref a), some (.ref c), some (.int (nI 0))] [] w0 := by
    intro w0 f0 d1 d3 d4
    refine upTo 36 (fun k (w2 : xw) => xfr a (a + 5) w w2 ∧ xL w2 = xL w0 ∧ xI w2 a = xI w0 a ∧ ∀ p, p < k → xI w2 (a + 3) p = xI w (c + 3) p ∧ xI w2 (a + 4) p = xI w (c + 4) p)
      (fun k w2 => T_X5_copy Q 79 [some (.ref a), some (.ref c), some (.int (nI k))] [] w2) ?_ ?_ 0 w0 (by omega) ⟨f0, rfl, rfl, fun j hj => by omega⟩
    · intro w2 ⟨f2, l2, i2, o2⟩
      refine r_X5_copy_79 ?_
      (try simp +decide (disch := omega) only [n_lit2, n_add, n_mul, n_tn, n_inT, n_ltT, n_ltF, n_leT, n_leF, n_eqT, n_eqF, n_eqm, n_meq, n_div, n_rem, nb_0, nb_1, nr_b, true_and, and_true, eq_self, Decidable.not_not, not_false_eq_true, not_true_eq_false, false_implies, true_implies, implies_true, Option.toList_some, Option.toList_none, List.cons_append, List.nil_append, xS_uI, xS_uL, xR_uI, xR_uL, xL_uI, xI_uL, xN_uI, xN_uL, xB_uI, xB_uL, add_nz, ge_256, and_self]); (try simp (disch := omega) only [lc_eq, lc_le, lc_lt, lc_ge, lc_gt, mb_t1, mb_t0, bI_0, bI_1, n_in, n_lt, n_le, n_eq, Bool.not_eq_false, Bool.not_eq_true, Decidable.not_not, true_and])
      exact third w2 f2 (by rw [i2, d1]; exact b1) (by rw [i2, d1]; exact b2) (by rw [l2]; exact d3) (by rw [l2]; exact d4) o2
    · intro k w2 hk ⟨f2, l2, i2, o2⟩ next
      have hP2 := XP_fr f2 hP
      have hC2 := XP_fr f2 hC
      have r3 : xI w2 (c + 3) = xI w (c + 3) := (f2.2.2.2 (c + 3) (by omega)).1
      have r4 : xI w2 (c + 4) = xI w (c + 4) := (f2.2.2.2 (c + 4) (by omega)).1
      refine r_X5_copy_79 ?_
      (try simp +decide (disch := omega) only [n_lit2, n_add, n_mul, n_tn, n_inT, n_ltT, n_ltF, n_leT, n_leF, n_eqT, n_eqF, n_eqm, n_meq, n_div, n_rem, nb_0, nb_1, nr_b, true_and, and_true, eq_self, Decidable.not_not, not_false_eq_true, not_true_eq_false, false_implies, true_implies, implies_true, Option.toList_some, Option.toList_none, List.cons_append, List.nil_append, xS_uI, xS_uL, xR_uI, xR_uL, xL_uI, xI_uL, xN_uI, xN_uL, xB_uI, xB_uL, add_nz, ge_256, and_self, XP_s hP2, XP_r2 hP2, XP_r3 hP2, XP_r7 hP2, XP_r8 hP2, XP_r9 hP2, XP_r11 hP2, XP_r12 hP2, XP_r13 hP2, XP_s1 hP2, XP_s2 hP2, XP_s3 hP2, XP_s4 hP2, XP_s5 hP2, XP_s6 hP2, XP_s7 hP2, XP_s hC2, XP_r2 hC2, XP_r3 hC2, XP_r7 hC2, XP_r8 hC2, XP_r9 hC2, XP_r11 hC2, XP_r12 hC2, XP_r13 hC2, XP_s1 hC2, XP_s2 hC2, XP_s3 hC2, XP_s4 hC2, XP_s5 hC2, XP_s6 hC2, XP_s7 hC2, x_uI_ne, x_uL_ne, r3, r4]); (try simp (disch := omega) only [lc_eq, lc_le, lc_lt, lc_ge, lc_gt, mb_t1, mb_t0, bI_0, bI_1, n_in, n_lt, n_le, n_eq, Bool.not_eq_false, Bool.not_eq_true, Decidable.not_not, true_and, XP_s hP2, XP_r2 hP2, XP_r3 hP2, XP_r7 hP2, XP_r8 hP2, XP_r9 hP2, XP_r11 hP2, XP_r12 hP2, XP_r13 hP2, XP_s1 hP2, XP_s2 hP2, XP_s3 hP2, XP_s4 hP2, XP_s5 hP2, XP_s6 hP2, XP_s7 hP2, XP_s hC2, XP_r2 hC2, XP_r3 hC2, XP_r7 hC2, XP_r8 hC2, XP_r9 hC2, XP_r11 hC2, XP_r12 hC2, XP_r13 hC2, XP_s1 hC2, XP_s2 hC2, XP_s3 hC2, XP_s4 hC2, XP_s5 hC2, XP_s6 hC2, XP_s7 hC2, x_uI_ne, x_uL_ne, r3, r4])
      refine next _ ⟨xfr_tI (xfr_tI f2 (by omega)) (by omega), l2, ?_, fun p hp => ?_⟩
      · rw [x_uI_ne (by omega), x_uI_ne (by omega)]; exact i2
      · rw [x_uI, x_uI, x_uI, x_uI]
        by_cases z : p = k
        · subst z
          rw [if_neg (by omega), if_pos ⟨rfl, rfl⟩, if_pos ⟨rfl, rfl⟩]; exact ⟨rfl, rfl⟩
        · rw [if_neg (by omega), if_neg (by omega), if_neg (by omega), if_neg (by omega)]; exact o2 p (by omega)
  refine upTo 2 (fun k (w2 : xw) => xfr a (a + 5) w w2 ∧ xI w2 = xI w1 ∧ xL w2 a = xL w1 a ∧ ∀ x, x < k → xL w2 (a + 1) x = stL (gS s) x ∧ xL w2 (a + 2) x = ldL (gL s) x)
    (fun k w2 => T_X5_copy Q 42 [some (.ref a), some (.ref c), some (.int (nI k))] [] w2) ?_ ?_ 0 w1 (by omega) ⟨f1, rfl, rfl, fun j hj => by omega⟩
  · intro w2 ⟨f2, i2, l2, o2⟩
    refine r_X5_copy_42 ?_
    (try simp +decide (disch := omega) only [n_lit2, n_add, n_mul, n_tn, n_inT, n_ltT, n_ltF, n_leT, n_leF, n_eqT, n_eqF, n_eqm, n_meq, n_div, n_rem, nb_0, nb_1, nr_b, true_and, and_true, eq_self, Decidable.not_not, not_false_eq_true, not_true_eq_false, false_implies, true_implies, implies_true, Option.toList_some, Option.toList_none, List.cons_append, List.nil_append, xS_uI, xS_uL, xR_uI, xR_uL, xL_uI, xI_uL, xN_uI, xN_uL, xB_uI, xB_uL, add_nz, ge_256, and_self]); (try simp (disch := omega) only [lc_eq, lc_le, lc_lt, lc_ge, lc_gt, mb_t1, mb_t0, bI_0, bI_1, n_in, n_lt, n_le, n_eq, Bool.not_eq_false, Bool.not_eq_true, Decidable.not_not, true_and])
    exact second w2 f2 (by rw [i2]) l2 o2
  · intro k w2 hk ⟨f2, i2, l2, o2⟩ next
    have hP2 := XP_fr f2 hP
    have hC2 := XP_fr f2 hC
    have r3 : xL w2 (c + 1) k = stL (gS s) k := by rw [(f2.2.2.2 (c + 1) (by omega)).2]; exact g4 k hk
    have r4 : xL w2 (c + 2) k = ldL (gL s) k := by rw [(f2.2.2.2 (c + 2) (by omega)).2]; exact g5 k hk
    refine r_X5_copy_42 ?_
    (try simp +decide (disch := omega) only [n_lit2, n_add, n_mul, n_tn, n_inT, n_ltT, n_ltF, n_leT, n_leF, n_eqT, n_eqF, n_eqm, n_meq, n_div, n_rem, nb_0, nb_1, nr_b, true_and, and_true, eq_self, Decidable.not_not, not_false_eq_true, not_true_eq_false, false_implies, true_implies, implies_true, Option.toList_some, Option.toList_none, List.cons_append, List.nil_append, xS_uI, xS_uL, xR_uI, xR_uL, xL_uI, xI_uL, xN_uI, xN_uL, xB_uI, xB_uL, add_nz, ge_256, and_self, XP_s hP2, XP_r2 hP2, XP_r3 hP2, XP_r7 hP2, XP_r8 hP2, XP_r9 hP2, XP_r11 hP2, XP_r12 hP2, XP_r13 hP2, XP_s1 hP2, XP_s2 hP2, XP_s3 hP2, XP_s4 hP2, XP_s5 hP2, XP_s6 hP2, XP_s7 hP2, XP_s hC2, XP_r2 hC2, XP_r3 hC2, XP_r7 hC2, XP_r8 hC2, XP_r9 hC2, XP_r11 hC2, XP_r12 hC2, XP_r13 hC2, XP_s1 hC2, XP_s2 hC2, XP_s3 hC2, XP_s4 hC2, XP_s5 hC2, XP_s6 hC2, XP_s7 hC2, x_uI_ne, x_uL_ne, r3, r4]); (try simp (disch := omega) only [lc_eq, lc_le, lc_lt, lc_ge, lc_gt, mb_t1, mb_t0, bI_0, bI_1, n_in, n_lt, n_le, n_eq, Bool.not_eq_false, Bool.not_eq_true, Decidable.not_not, true_and, XP_s hP2, XP_r2 hP2, XP_r3 hP2, XP_r7 hP2, XP_r8 hP2, XP_r9 hP2, XP_r11 hP2, XP_r12 hP2, XP_r13 hP2, XP_s1 hP2, XP_s2 hP2, XP_s3 hP2, XP_s4 hP2, XP_s5 hP2, XP_s6 hP2, XP_s7 hP2, XP_s hC2, XP_r2 hC2, XP_r3 hC2, XP_r7 hC2, XP_r8 hC2, XP_r9 hC2, XP_r11 hC2, XP_r12 hC2, XP_r13 hC2, XP_s1 hC2, XP_s2 hC2, XP_s3 hC2, XP_s4 hC2, XP_s5 hC2, XP_s6 hC2, XP_s7 hC2, x_uI_ne, x_uL_ne, r3, r4])
    refine next _ ⟨xfr_tL (xfr_tL f2 (by omega)) (by omega), i2, ?_, fun x hx => ?_⟩
    · rw [x_uL_ne (by omega), x_uL_ne (by omega)]; exact l2
    · rw [x_uL, x_uL, x_uL, x_uL]
      by_cases z : x = k
      · subst z
        rw [if_neg (by omega), if_pos ⟨rfl, rfl⟩, if_pos ⟨rfl, rfl⟩]; exact ⟨rfl, rfl⟩
      · rw [if_neg (by omega), if_neg (by omega), if_neg (by omega), if_neg (by omega)]; exact o2 x (by omega)
theorem bldL_f {f : Nat → Bool} (h : ∀ p, f p = false) (n : Nat) : bldL f n = 0 := by
  induction n with
  | zero => rfl
  | succ n ih => unfold bldL; rw [if_neg (by rw [h n]; simp), ih]
theorem stL_z (x : Nat) : stL (fun _ => 0) x = 0 := bldL_f (fun p => by unfold isOfG; simp) 36
theorem ldL_z (x : Nat) : ldL (fun _ => 0) x = 0 := bldL_f (fun p => by simp; omega) 36
theorem mkL_z (B : Bd) (i : Nat) : mkL B (fun _ => 0) i = 0 := bldL_f (fun p => by simp) 36
set_option maxHeartbeats 2000000 in
theorem x_clears (hP : XP a w) (q : ∀ w', xfr a (a + 4) w w' → XG B gs0 a w' → Q none w') : V_X5_clears [.ref a] w Q := by
  have ha := XP_ge hP
  refine e_X5_clears (r_X5_clears_0 ?_)
  (try simp +decide (disch := omega) only [n_lit2, n_add, n_mul, n_tn, n_inT, n_ltT, n_ltF, n_leT, n_leF, n_eqT, n_eqF, n_eqm, n_meq, n_div, n_rem, nb_0, nb_1, nr_b, true_and, and_true, eq_self, Decidable.not_not, not_false_eq_true, not_true_eq_false, false_implies, true_implies, implies_true, Option.toList_some, Option.toList_none, List.cons_append, List.nil_append, xS_uI, xS_uL, xR_uI, xR_uL, xL_uI, xI_uL, xN_uI, xN_uL, xB_uI, xB_uL, add_nz, ge_256, and_self, XP_s hP]); (try simp (disch := omega) only [lc_eq, lc_le, lc_lt, lc_ge, lc_gt, mb_t1, mb_t0, bI_0, bI_1, n_in, n_lt, n_le, n_eq, Bool.not_eq_false, Bool.not_eq_true, Decidable.not_not, true_and, XP_s hP])
  generalize hw1 : xUpL (xUpL (xUpL (xUpI (xUpI w a 0 (nI 0)) a 1 (nI 0)) a 4 0) a 5 0) a 6 0 = w1
  have f1 : xfr a (a + 4) w w1 := by
    rw [← hw1]
    exact xfr_tL (xfr_tL (xfr_tL (xfr_tI (xfr_tI (xfr_refl _ _ w) (by omega)) (by omega)) (by omega)) (by omega)) (by omega)
  have b1 : xI w1 a 0 = nI 0 := by rw [← hw1, xI_uL, xI_uL, xI_uL, x_uI, if_neg (by omega), x_uI, if_pos ⟨rfl, rfl⟩]
  have b2 : xI w1 a 1 = nI 0 := by rw [← hw1, xI_uL, xI_uL, xI_uL, x_uI, if_pos ⟨rfl, rfl⟩]
  have b3 : xL w1 a 4 = 0 := by rw [← hw1, x_uL, if_neg (by omega), x_uL, if_neg (by omega), x_uL, if_pos ⟨rfl, rfl⟩]
  have b4 : xL w1 a 5 = 0 := by rw [← hw1, x_uL, if_neg (by omega), x_uL, if_pos ⟨rfl, rfl⟩]
  have b5 : xL w1 a 6 = 0 := by rw [← hw1, x_uL, if_pos ⟨rfl, rfl⟩]
  clear hw1
  have second : ∀ w0 : xw, xfr a (a + 4) w w0 → xI w0 a = xI w1 a → xL w0 a = xL w1 a → (∀ x, x < 2 → xL w0 (a + 1) x = 0 ∧ xL w0 (a + 2) x = 0) → T_X5_clears Q 54 [some (.ref a), some (.int (nI 0))] [] w0 := by
    intro w0 f0 d1 d3 d4
    refine upTo 36 (fun k (w2 : xw) => xfr a (a + 4) w w2 ∧ xL w2 = xL w0 ∧ xI w2 a = xI w0 a ∧ ∀ p, p < k → xI w2 (a + 4) p = 0)
      (fun k w2 => T_X5_clears Q 54 [some (.ref a), some (.int (nI k))] [] w2) ?_ ?_ 0 w0 (by omega) ⟨f0, rfl, rfl, fun j hj => by omega⟩
    · intro w2 ⟨f2, l2, i2, o2⟩
      refine r_X5_clears_54 ?_
      (try simp +decide (disch := omega) only [n_lit2, n_add, n_mul, n_tn, n_inT, n_ltT, n_ltF, n_leT, n_leF, n_eqT, n_eqF, n_eqm, n_meq, n_div, n_rem, nb_0, nb_1, nr_b, true_and, and_true, eq_self, Decidable.not_not, not_false_eq_true, not_true_eq_false, false_implies, true_implies, implies_true, Option.toList_some, Option.toList_none, List.cons_append, List.nil_append, xS_uI, xS_uL, xR_uI, xR_uL, xL_uI, xI_uL, xN_uI, xN_uL, xB_uI, xB_uL, add_nz, ge_256, and_self]); (try simp (disch := omega) only [lc_eq, lc_le, lc_lt, lc_ge, lc_gt, mb_t1, mb_t0, bI_0, bI_1, n_in, n_lt, n_le, n_eq, Bool.not_eq_false, Bool.not_eq_true, Decidable.not_not, true_and])
      refine q w2 f2 ⟨by rw [i2, d1]; exact b1, by rw [i2, d1]; exact b2, lsL_nil _, fun x hx => by rw [l2, (d4 x hx).1]; exact (stL_z x).symm, fun x hx => by rw [l2, (d4 x hx).2]; exact (ldL_z x).symm, fun p hp hn => absurd rfl hn, fun p hp => by rw [o2 p hp], by rw [l2, d3, b3]; exact (mkL_z B 0).symm, by rw [l2, d3, b4]; exact (mkL_z B 1).symm, by rw [l2, d3, b5]; exact (mkL_z B 2).symm⟩
    · intro k w2 hk ⟨f2, l2, i2, o2⟩ next
      have hP2 := XP_fr f2 hP
      refine r_X5_clears_54 ?_
      (try simp +decide (disch := omega) only [n_lit2, n_add, n_mul, n_tn, n_inT, n_ltT, n_ltF, n_leT, n_leF, n_eqT, n_eqF, n_eqm, n_meq, n_div, n_rem, nb_0, nb_1, nr_b, true_and, and_true, eq_self, Decidable.not_not, not_false_eq_true, not_true_eq_false, false_implies, true_implies, implies_true, Option.toList_some, Option.toList_none, List.cons_append, List.nil_append, xS_uI, xS_uL, xR_uI, xR_uL, xL_uI, xI_uL, xN_uI, xN_uL, xB_uI, xB_uL, add_nz, ge_256, and_self, XP_s hP2, XP_r2 hP2, XP_r3 hP2, XP_r7 hP2, XP_r8 hP2, XP_r9 hP2, XP_r11 hP2, XP_r12 hP2, XP_r13 hP2, XP_s1 hP2, XP_s2 hP2, XP_s3 hP2, XP_s4 hP2, XP_s5 hP2, XP_s6 hP2, XP_s7 hP2]); (try simp (disch := omega) only [lc_eq, lc_le, lc_lt, lc_ge, lc_gt, mb_t1, mb_t0, bI_0, bI_1, n_in, n_lt, n_le, n_eq, Bool.not_eq_false, Bool.not_eq_true, Decidable.not_not, true_and, XP_s hP2, XP_r2 hP2, XP_r3 hP2, XP_r7 hP2, XP_r8 hP2, XP_r9 hP2, XP_r11 hP2, XP_r12 hP2, XP_r13 hP2, XP_s1 hP2, XP_s2 hP2, XP_s3 hP2, XP_s4 hP2, XP_s5 hP2, XP_s6 hP2, XP_s7 hP2])
      refine next _ ⟨xfr_tI f2 (by omega), l2, ?_, fun p hp => ?_⟩
      · rw [x_uI_ne (by omega)]; exact i2
      · rw [x_uI]
        by_cases z : p = k
        · rw [if_pos ⟨rfl, z⟩]; rfl
        · rw [if_neg (by omega)]; exact o2 p (by omega)
  refine upTo 2 (fun k (w2 : xw) => xfr a (a + 4) w w2 ∧ xI w2 = xI w1 ∧ xL w2 a = xL w1 a ∧ ∀ x, x < k → xL w2 (a + 1) x = 0 ∧ xL w2 (a + 2) x = 0)
    (fun k w2 => T_X5_clears Q 27 [some (.ref a), some (.int (nI k))] [] w2) ?_ ?_ 0 w1 (by omega) ⟨f1, rfl, rfl, fun j hj => by omega⟩
  · intro w2 ⟨f2, i2, l2, o2⟩
    refine r_X5_clears_27 ?_
    (try simp +decide (disch := omega) only [n_lit2, n_add, n_mul, n_tn, n_inT, n_ltT, n_ltF, n_leT, n_leF, n_eqT, n_eqF, n_eqm, n_meq, n_div, n_rem, nb_0, nb_1, nr_b, true_and, and_true, eq_self, Decidable.not_not, not_false_eq_true, not_true_eq_false, false_implies, true_implies, implies_true, Option.toList_some, Option.toList_none, List.cons_append, List.nil_append, xS_uI, xS_uL, xR_uI, xR_uL, xL_uI, xI_uL, xN_uI, xN_uL, xB_uI, xB_uL, add_nz, ge_256, and_self]); (try simp (disch := omega) only [lc_eq, lc_le, lc_lt, lc_ge, lc_gt, mb_t1, mb_t0, bI_0, bI_1, n_in, n_lt, n_le, n_eq, Bool.not_eq_false, Bool.not_eq_true, Decidable.not_not, true_and])
    exact second w2 f2 (by rw [i2]) l2 o2
  · intro k w2 hk ⟨f2, i2, l2, o2⟩ next
    have hP2 := XP_fr f2 hP
    refine r_X5_clears_27 ?_
    (try simp +decide (disch := omega) only [n_lit2, n_add, n_mul, n_tn, n_inT, n_ltT, n_ltF, n_leT, n_leF, n_eqT, n_eqF, n_eqm, n_meq, n_div, n_rem, nb_0, nb_1, nr_b, true_and, and_true, eq_self, Decidable.not_not, not_false_eq_true, not_true_eq_false, false_implies, true_implies, implies_true, Option.toList_some, Option.toList_none, List.cons_append, List.nil_append, xS_uI, xS_uL, xR_uI, xR_uL, xL_uI, xI_uL, xN_uI, xN_uL, xB_uI, xB_uL, add_nz, ge_256, and_self, XP_s hP2, XP_r2 hP2, XP_r3 hP2, XP_r7 hP2, XP_r8 hP2, XP_r9 hP2, XP_r11 hP2, XP_r12 hP2, XP_r13 hP2, XP_s1 hP2, XP_s2 hP2, XP_s3 hP2, XP_s4 hP2, XP_s5 hP2, XP_s6 hP2, XP_s7 hP2]); (try simp (disch := omega) only [lc_eq, lc_le, lc_lt, lc_ge, lc_gt, mb_t1, mb_t0, bI_0, bI_1, n_in, n_lt, n_le, n_eq, Bool.not_eq_false, Bool.not_eq_true, Decidable.not_not, true_and, XP_s hP2, XP_r2 hP2, XP_r3 hP2, XP_r7 hP2, XP_r8 hP2, XP_r9 hP2, XP_r11 hP2, XP_r12 hP2, XP_r13 hP2, XP_s1 hP2, XP_s2 hP2, XP_s3 hP2, XP_s4 hP2, XP_s5 hP2, XP_s6 hP2, XP_s7 hP2])
    refine next _ ⟨xfr_tL (xfr_tL f2 (by omega)) (by omega), i2, ?_, fun x hx => ?_⟩
    · rw [x_uL_ne (by omega), x_uL_ne (by omega)]; exact l2
    · rw [x_uL, x_uL, x_uL, x_uL]
      by_cases z : x = k
      · subst z
        rw [if_neg (by omega), if_pos ⟨rfl, rfl⟩, if_pos ⟨rfl, rfl⟩]; exact ⟨rfl, rfl⟩
      · rw [if_neg (by omega), if_neg (by omega), if_neg (by omega), if_neg (by omega)]; exact o2 x (by omega)
end
