/-! X: a stone is laid; what is lost; a day -/
theorem XG_set {B : Bd} {s t : GS} {a : Nat} {w w' : xw} (g : XG B s a w) (h : (xI w' a 0 = xI w a 0 ∧ gD t = gD s) ∧ (xI w' a 1 = xI w a 1 ∧ gO t = gO s) ∧ xL w' (a + 5) = xL w (a + 5)) (k1 : ∀ x, x < 2 → xL w' (a + 1) x = stL (gS t) x) (k2 : ∀ x, x < 2 → xL w' (a + 2) x = ldL (gL t) x) (k3 : ∀ p, p < 36 → gS t p ≠ 0 → xI w' (a + 3) p = nI (kdG (gS t) p)) (k4 : ∀ p, p < 36 → xI w' (a + 4) p = gC t p) (k5 : xL w' a 4 = mkL B (gS t) 0 ∧ xL w' a 5 = mkL B (gS t) 1 ∧ xL w' a 6 = mkL B (gS t) 2) : XG B t a w' := by
  obtain ⟨g1, g2, g3, -⟩ := g
  obtain ⟨⟨h1, h2⟩, ⟨h3, h4⟩, h5⟩ := h
  exact ⟨by rw [h1, h2]; exact g1, by rw [h3, h4]; exact g2, by rw [h4, h5]; exact g3, k1, k2, k3, k4, k5.1, k5.2.1, k5.2.2⟩
theorem stL_up {st : Nat → Nat} {p v x : Nat} (hp : p < 36) (h0 : st p = 0) (hv : 0 < v) : stL (upN st p v) x = if v % 2 = x then stL st x ||| b1 p else stL st x := by
  apply mb_ext
  intro u hu
  have e1 : isOfG (upN st p v) u x = if u = p then decide (v % 2 = x) else isOfG st u x := by
    unfold isOfG upN
    by_cases z : u = p
    · simp [z, hv]
    · simp [z]
  by_cases c : v % 2 = x
  · rw [if_pos c, mb_or, mb_stL _ _ hu, mb_stL _ _ hu, mb_b1 (by omega) hu, e1]
    by_cases z : u = p
    · subst z; simp [c, hp]
    · simp [z]
  · rw [if_neg c, mb_stL _ _ hu, mb_stL _ _ hu, e1]
    by_cases z : u = p
    · subst z
      have : isOfG st u x = false := by unfold isOfG; rw [h0]; simp
      simp [c, this]
    · simp [z]
theorem mkL_up {B : Bd} {st : Nat → Nat} {p v i : Nat} (hp : p < 36) (h0 : st p = 0) (hv : 0 < v) : mkL B (upN st p v) i = if (bM B (v / 2 - 1)).testBit i = true then mkL B st i ||| b1 p else mkL B st i := by
  apply mb_ext
  intro u hu
  have e1 : (decide (upN st p v u ≠ 0) && mkG B (upN st p v) u i) = if u = p then (bM B (v / 2 - 1)).testBit i else (decide (st u ≠ 0) && mkG B st u i) := by
    unfold mkG kdG upN
    by_cases z : u = p
    · simp [z]; intro z2; omega
    · simp [z]
  by_cases c : (bM B (v / 2 - 1)).testBit i = true
  · rw [if_pos c, mb_or, mb_mkL _ _ _ hu, mb_mkL _ _ _ hu, mb_b1 (by omega) hu, e1]
    by_cases z : u = p
    · subst z; simp [c, hp]
    · simp [z]
  · rw [if_neg c, mb_mkL _ _ _ hu, mb_mkL _ _ _ hu, e1]
    by_cases z : u = p
    · subst z
      have c2 : (bM B (v / 2 - 1)).testBit i = false := by simpa using c
      simp [c2, h0]
    · simp [z]
section
variable {Q : Option Value → xw → Prop} {w : xw} {B : Bd} {s : GS} {a b : Nat}
set_option maxHeartbeats 2000000 in
theorem x_lays (hB : bOk B) (hE : XE B b w) (hP : XP a w) (hG : XG B s a w) {side k p : Nat} (h2 : side < 2) (hk : k < bK B) (hp : p < bN B) (h0 : gS s p = 0)
    (q : ∀ w', xfr a (a + 3) w w' → XG B (upN (gS s) p (2 + 2 * k + side), gL s, gC s, gD s, gO s) a w' → Q none w') : V_X5_lays [.ref a, .int (nI side), .int (nI k), .int (nI p)] w Q := by
  have hN := hB.2.2.2.2.1
  have hK := hB.2.2.2.2.2.1
  have ha := XP_ge hP
  have hm := (hB.2.2.2.2.2.2.1 k hk).2
  have kd : (2 + 2 * k + side) / 2 - 1 = k := by omega
  have sd : (2 + 2 * k + side) % 2 = side := by omega
  obtain ⟨g1, g2, g3, g4, g5, g6, g7, g8, g9, g10⟩ := id hG
  have r1 := g4 side h2
  refine e_X5_lays (r_X5_lays_0 ?_)
  rw [XP_r13 hP, XE_b hE]
  refine ⟨XP_s hP, by omega, XE_s hE, hE.2.1.1.1, XE_bs hE, x_kind hK hE hk (fun q1 q2 q3 q4 => r_X5_lays_11 ?_)⟩
  have kf : far (kAt w b k) := (hE.2.2.2.1 k hk).1
  generalize kAt w b k = kk at *
  (try simp +decide (disch := omega) only [n_lit2, n_add, n_mul, n_tn, n_inT, n_ltT, n_ltF, n_leT, n_leF, n_eqT, n_eqF, n_eqm, n_meq, n_div, n_rem, nb_0, nb_1, nr_b, true_and, and_true, eq_self, Decidable.not_not, not_false_eq_true, not_true_eq_false, false_implies, true_implies, implies_true, Option.toList_some, Option.toList_none, List.cons_append, List.nil_append, xS_uI, xS_uL, xR_uI, xR_uL, xL_uI, xI_uL, xN_uI, xN_uL, xB_uI, xB_uL, add_nz, ge_256, and_self, XP_s hP, XP_r2 hP, XP_r3 hP, XP_r7 hP, XP_r8 hP, XP_r9 hP, XP_r11 hP, XP_r12 hP, XP_r13 hP, XP_s1 hP, XP_s2 hP, XP_s3 hP, XP_s4 hP, XP_s5 hP, XP_s6 hP, XP_s7 hP, r1, q1]); (try simp (disch := omega) only [lc_eq, lc_le, lc_lt, lc_ge, lc_gt, mb_t1, mb_t0, bI_0, bI_1, n_in, n_lt, n_le, n_eq, Bool.not_eq_false, Bool.not_eq_true, Decidable.not_not, true_and, XP_s hP, XP_r2 hP, XP_r3 hP, XP_r7 hP, XP_r8 hP, XP_r9 hP, XP_r11 hP, XP_r12 hP, XP_r13 hP, XP_s1 hP, XP_s2 hP, XP_s3 hP, XP_s4 hP, XP_s5 hP, XP_s6 hP, XP_s7 hP, r1, q1])
  have w1e : ∀ w1, w1 = xUpI (xUpL w (a + 1) side (stL (gS s) side ||| 1 <<< (Int32.toInt64 (nI p) &&& 63))) (a + 3) p (nI k) → V_X7_has [.ref kk, .int (nI 1)] w1 (fun v w2 => T_X5_lays Q 47 [some (.ref a), some (.int (nI side)), some (.int (nI k)), some (.int (nI p)), some (.ref kk), some (.long (1 <<< (Int32.toInt64 (nI p) &&& 63))), none] (v.toList ++ [.long (xL w1 a 4), .ref a]) w2) := by
    intro w1 ew
    have f1 : xfr a (a + 3) w w1 := by rw [ew]; exact xfr_tI (xfr_tL (xfr_refl _ _ w) (by omega)) (by omega)
    have l1 : ∀ i, i ≠ a + 1 → xL w1 i = xL w i := fun i hi => by rw [ew]; exact (xUpL_ne w _ _ _ i hi).2.1
    have l2 : ∀ x, x < 2 → xL w1 (a + 1) x = stL (upN (gS s) p (2 + 2 * k + side)) x := fun x hx => by
      rw [stL_up (by omega) h0 (by omega), sd, ew, xL_uI, x_uL]
      by_cases z : side = x
      · subst z; rw [if_pos ⟨rfl, rfl⟩, if_pos rfl]; rfl
      · rw [if_neg (by omega), if_neg z]; exact g4 x hx
    have l3 : ∀ i, i ≠ a + 3 → xI w1 i = xI w i := fun i hi => by rw [ew]; exact (xUpI_ne _ _ _ _ i hi).1
    have l4 : ∀ u, u < 36 → upN (gS s) p (2 + 2 * k + side) u ≠ 0 → xI w1 (a + 3) u = nI (kdG (upN (gS s) p (2 + 2 * k + side)) u) := fun u hu hn => by
      rw [ew, x_uI]
      by_cases z : u = p
      · subst z
        rw [if_pos ⟨rfl, rfl⟩]
        congr 1
        unfold kdG upN; rw [if_pos rfl]; omega
      · rw [if_neg (by omega)]
        have e5 : kdG (upN (gS s) p (2 + 2 * k + side)) u = kdG (gS s) u := by unfold kdG upN; rw [if_neg z]
        have e6 : upN (gS s) p (2 + 2 * k + side) u = gS s u := by unfold upN; rw [if_neg z]
        rw [e5]; rw [e6] at hn; exact g6 u hu hn
    have s1 : (xS w1 kk).1 = 7 := by rw [f1.2.1]; exact q1
    have m1 : xI w1 kk 2 = nI (bM B k) := by rw [(f1.2.2.2 kk (by omega)).1]; exact q4
    have mk : ∀ i, (if (bM B k).testBit i = true then mkL B (gS s) i ||| b1 p else mkL B (gS s) i) = mkL B (upN (gS s) p (2 + 2 * k + side)) i := fun i => by rw [mkL_up (by omega) h0 (by omega), kd]
    clear ew
    refine x_khas s1 m1 hm (Or.inl ⟨rfl, rfl⟩) (r_X5_lays_47 ?_)
    have hP1 := XP_fr f1 hP
    have e4 : xL w1 a 4 = mkL B (gS s) 0 := by rw [l1 a (by omega)]; exact g8
    have st2 : ∀ w2, w2 = xUpL w1 a 4 (mkL B (upN (gS s) p (2 + 2 * k + side)) 0) → V_X7_has [.ref kk, .int (nI 2)] w2 (fun v w3 => T_X5_lays Q 71 [some (.ref a), none, none, none, some (.ref kk), some (.long (b1 p)), none] (v.toList ++ [.long (xL w2 a 5), .ref a]) w3) := by
      intro w2 ew2
      have f2 : xfr a (a + 3) w w2 := by rw [ew2]; exact xfr_tL f1 (by omega)
      have s2 : (xS w2 kk).1 = 7 := by rw [f2.2.1]; exact q1
      have m2 : xI w2 kk 2 = nI (bM B k) := by rw [(f2.2.2.2 kk (by omega)).1]; exact q4
      refine x_khas s2 m2 hm (Or.inr (Or.inl ⟨rfl, rfl⟩)) (r_X5_lays_71 ?_)
      have hP2 := XP_fr f2 hP
      have e5 : xL w2 a 5 = mkL B (gS s) 1 := by rw [ew2, x_uL, if_neg (by omega), l1 a (by omega)]; exact g9
      have st3 : ∀ w3, w3 = xUpL w2 a 5 (mkL B (upN (gS s) p (2 + 2 * k + side)) 1) → V_X7_has [.ref kk, .int (nI 4)] w3 (fun v w4 => T_X5_lays Q 95 [some (.ref a), none, none, none, some (.ref kk), some (.long (b1 p)), none] (v.toList ++ [.long (xL w3 a 6), .ref a]) w4) := by
        intro w3 ew3
        have f3 : xfr a (a + 3) w w3 := by rw [ew3]; exact xfr_tL f2 (by omega)
        have s3 : (xS w3 kk).1 = 7 := by rw [f3.2.1]; exact q1
        have m3 : xI w3 kk 2 = nI (bM B k) := by rw [(f3.2.2.2 kk (by omega)).1]; exact q4
        refine x_khas s3 m3 hm (Or.inr (Or.inr ⟨rfl, rfl⟩)) (r_X5_lays_95 ?_)
        have hP3 := XP_fr f3 hP
        have e6 : xL w3 a 6 = mkL B (gS s) 2 := by rw [ew3, x_uL, if_neg (by omega), ew2, x_uL, if_neg (by omega), l1 a (by omega)]; exact g10
        have fin : ∀ w4, w4 = xUpL w3 a 6 (mkL B (upN (gS s) p (2 + 2 * k + side)) 2) → Q none w4 := by
          intro w4 ew4
          have f4 : xfr a (a + 3) w w4 := by rw [ew4]; exact xfr_tL f3 (by omega)
          have iI : xI w4 = xI w1 := by rw [ew4, xI_uL, ew3, xI_uL, ew2, xI_uL]
          have iL : ∀ i, i ≠ a → xL w4 i = xL w1 i := fun i hi => by
            rw [ew4, (xUpL_ne w3 _ _ _ i hi).2.1, ew3, (xUpL_ne w2 _ _ _ i hi).2.1, ew2, (xUpL_ne w1 _ _ _ i hi).2.1]
          refine q w4 f4 (XG_set hG ⟨⟨by rw [iI, l3 a (by omega)], rfl⟩, ⟨by rw [iI, l3 a (by omega)], rfl⟩, by rw [iL _ (by omega), l1 _ (by omega)]⟩ (fun x hx => by rw [iL _ (by omega)]; exact l2 x hx) (fun x hx => by rw [iL _ (by omega), l1 _ (by omega)]; exact g5 x hx) (fun u hu hn => by rw [iI]; exact l4 u hu hn) (fun u hu => by rw [iI, l3 _ (by omega)]; exact g7 u hu) ⟨?_, ?_, ?_⟩)
          · rw [ew4, x_uL, if_neg (by omega), ew3, x_uL, if_neg (by omega), ew2, x_uL, if_pos ⟨rfl, rfl⟩]
          · rw [ew4, x_uL, if_neg (by omega), ew3, x_uL, if_pos ⟨rfl, rfl⟩]
          · rw [ew4, x_uL, if_pos ⟨rfl, rfl⟩]
        have mk2 := mk 2
        refine ⟨fun c => ⟨XP_s hP3, by omega, rfl, fin _ ?_⟩, fun c => ⟨XP_s hP3, by omega, rfl, fin _ ?_⟩⟩
        · have c := bI_e0 c
          rw [c, if_neg (by simp)] at mk2
          rw [← mk2, e6, Int64.or_zero]
        · have c := bI_n0 c
          rw [c, if_pos rfl] at mk2
          rw [← mk2, e6]
      have mk1 := mk 1
      refine ⟨fun c => ?_, fun c => ?_⟩
      · have c := bI_e0 c
        rw [c, if_neg (by simp)] at mk1
        rw [e5, Int64.or_zero, mk1]
        exact ⟨XP_s hP2, by omega, XP_s hP2, s2, st3 _ rfl⟩
      · have c := bI_n0 c
        rw [c, if_pos rfl] at mk1
        rw [e5, mk1]
        exact ⟨XP_s hP2, by omega, XP_s hP2, s2, st3 _ rfl⟩
    have mk0 := mk 0
    refine ⟨fun c => ?_, fun c => ?_⟩
    · have c := bI_e0 c
      rw [c, if_neg (by simp)] at mk0
      rw [e4, Int64.or_zero, mk0]
      exact ⟨XP_s hP1, by omega, XP_s hP1, s1, st2 _ rfl⟩
    · have c := bI_n0 c
      rw [c, if_pos rfl] at mk0
      have mk0' : mkL B (gS s) 0 ||| 1 <<< (Int32.toInt64 (nI p) &&& 63) = mkL B (upN (gS s) p (2 + 2 * k + side)) 0 := mk0
      rw [e4, mk0']
      exact ⟨XP_s hP1, by omega, XP_s hP1, s1, st2 _ rfl⟩
  exact w1e _ rfl
/-- a part is lost -/
theorem x_loses (hN : bN B ≤ 36) (hE : XE B b w) (hP : XP a w) (hG : XG B s a w) (hl : ∀ p, gL s p ≤ 2) {side : Nat} (h2 : side < 2) (o : Int64) (ho : ∀ p, mb o p = true → p < bN B)
    (q : ∀ w', xfr (a + 2) (a + 4) w w' → XG B (gS s, lz1 (bN B) (2 - side) o (gL s), lzc (bN B) (2 - side) o (gL s) (gC s), gD s, gO s) a w' → Q none w') : V_X5_loses [.ref a, .int (nI side), .long o] w Q := by
  have ha := XP_ge hP
  obtain ⟨g1, g2, g3, g4, g5, g6, g7, g8, g9, g10⟩ := id hG
  have e1 : nI 1 - nI side = nI (1 - side) := n_sub (by omega)
  have r1 := g5 (1 - side) (by omega)
  have r2 := g5 side h2
  refine e_X5_loses (r_X5_loses_0 ?_)
  have en : ∀ v, xL (xUpL w (a + 2) (1 - side) v) (a + 2) side = ldL (gL s) side := fun v => by rw [x_uL, if_neg (by omega)]; exact r2
  (try simp +decide (disch := omega) only [n_lit2, n_add, n_mul, n_tn, n_inT, n_ltT, n_ltF, n_leT, n_leF, n_eqT, n_eqF, n_eqm, n_meq, n_div, n_rem, nb_0, nb_1, nr_b, true_and, and_true, eq_self, Decidable.not_not, not_false_eq_true, not_true_eq_false, false_implies, true_implies, implies_true, Option.toList_some, Option.toList_none, List.cons_append, List.nil_append, xS_uI, xS_uL, xR_uI, xR_uL, xL_uI, xI_uL, xN_uI, xN_uL, xB_uI, xB_uL, add_nz, ge_256, and_self, XP_s hP, XP_r2 hP, XP_r3 hP, XP_r7 hP, XP_r8 hP, XP_r9 hP, XP_r11 hP, XP_r12 hP, XP_r13 hP, XP_s1 hP, XP_s2 hP, XP_s3 hP, XP_s4 hP, XP_s5 hP, XP_s6 hP, XP_s7 hP, e1, r1, en]); (try simp (disch := omega) only [lc_eq, lc_le, lc_lt, lc_ge, lc_gt, mb_t1, mb_t0, bI_0, bI_1, n_in, n_lt, n_le, n_eq, Bool.not_eq_false, Bool.not_eq_true, Decidable.not_not, true_and, XP_s hP, XP_r2 hP, XP_r3 hP, XP_r7 hP, XP_r8 hP, XP_r9 hP, XP_r11 hP, XP_r12 hP, XP_r13 hP, XP_s1 hP, XP_s2 hP, XP_s3 hP, XP_s4 hP, XP_s5 hP, XP_s6 hP, XP_s7 hP, e1, r1, en])
  have lz : ∀ x, x < 2 → ldL (lz1 (bN B) (2 - side) o (gL s)) x = if x = 1 - side then ldL (gL s) x ||| o else ldL (gL s) x &&& (o ^^^ (-1)) := fun x hx => by
    apply mb_ext
    intro u hu
    have ol : mb o u = true → u < bN B := ho u
    rw [mb_ldL _ _ hu]
    unfold lz1
    by_cases c : x = 1 - side
    · rw [if_pos c, mb_or, mb_ldL _ _ hu]
      cases z : mb o u with
      | false => simp
      | true => have := ol z; simp [this, show u < 36 from by omega]; omega
    · rw [if_neg c, mb_and, mb_ldL _ _ hu, mb_not _ hu]
      cases z : mb o u with
      | false => simp
      | true => have := ol z; simp [this]; intro _; omega
  have gain : ∀ u, u < bN B → (mb (o &&& (ldL (gL s) (1 - side) ^^^ (-1))) u = true ↔ (mb o u = true ∧ gL s u ≠ 2 - side)) := fun u hu => by
    rw [mb_and, mb_not _ (by omega), mb_ldL _ _ (by omega), Bool.and_eq_true]
    simp [show u < 36 from by omega]
    intro _; omega
  generalize o &&& (ldL (gL s) (1 - side) ^^^ (-1)) = gains at *
  generalize hw1 : xUpL (xUpL w (a + 2) (1 - side) (ldL (gL s) (1 - side) ||| o)) (a + 2) side (ldL (gL s) side &&& (o ^^^ (-1))) = w1 at *
  have f1 : xfr (a + 2) (a + 4) w w1 := by rw [← hw1]; exact xfr_tL (xfr_tL (xfr_refl _ _ w) (by omega)) (by omega)
  have k2 : ∀ x, x < 2 → xL w1 (a + 2) x = ldL (lz1 (bN B) (2 - side) o (gL s)) x := fun x hx => by
    rw [lz x hx, ← hw1, x_uL, x_uL]
    by_cases z : x = side
    · subst z
      rw [if_pos ⟨rfl, rfl⟩, if_neg (by omega)]
    · rw [if_neg (by omega), if_pos ⟨rfl, by omega⟩, if_pos (by omega)]
      congr 2
      omega
  have i1 : xI w1 = xI w := by rw [← hw1, xI_uL, xI_uL]
  clear hw1
  refine upTo (bN B) (fun u (w2 : xw) => xfr (a + 2) (a + 4) w w2 ∧ xL w2 = xL w1 ∧ (∀ i, i ≠ a + 4 → xI w2 i = xI w i) ∧ ∀ p, p < 36 → xI w2 (a + 4) p = lzc u (2 - side) o (gL s) (gC s) p)
    (fun u w2 => ∀ {o1 o2 o3 o5 : Option Value}, T_X5_loses Q 45 [some (.ref a), o1, o2, o3, some (.long gains), o5, some (.int (nI u))] [] w2) ?_ ?_ 0 w1 (by omega) ⟨f1, rfl, fun i _ => by rw [i1], fun p hp => by rw [i1, lzc_0]; exact g7 p hp⟩
  · intro w2 ⟨f2, l2, i2, c2⟩ o1 o2 o3 o5
    have hE2 := XE_fr f2 (by omega) hE
    have hP2 := XP_fr f2 hP
    refine r_X5_loses_45 ?_
    rw [XP_r13 hP2]
    refine ⟨XP_s hP2, by omega, XE_s hE2, x_placeMany hE2 (r_X5_loses_54 ?_)⟩
    (try simp +decide (disch := omega) only [n_lit2, n_add, n_mul, n_tn, n_inT, n_ltT, n_ltF, n_leT, n_leF, n_eqT, n_eqF, n_eqm, n_meq, n_div, n_rem, nb_0, nb_1, nr_b, true_and, and_true, eq_self, Decidable.not_not, not_false_eq_true, not_true_eq_false, false_implies, true_implies, implies_true, Option.toList_some, Option.toList_none, List.cons_append, List.nil_append, xS_uI, xS_uL, xR_uI, xR_uL, xL_uI, xI_uL, xN_uI, xN_uL, xB_uI, xB_uL, add_nz, ge_256, and_self]); (try simp (disch := omega) only [lc_eq, lc_le, lc_lt, lc_ge, lc_gt, mb_t1, mb_t0, bI_0, bI_1, n_in, n_lt, n_le, n_eq, Bool.not_eq_false, Bool.not_eq_true, Decidable.not_not, true_and])
    have e9 := fun i (hi : i < a + 2 ∨ a + 4 < i) => f2.2.2.2 i hi
    refine q w2 f2 (XG_set hG ⟨⟨by rw [(e9 a (by omega)).1], rfl⟩, ⟨by rw [(e9 a (by omega)).1], rfl⟩, (e9 _ (by omega)).2⟩ (fun x hx => by rw [(e9 _ (by omega)).2]; exact g4 x hx) (fun x hx => by rw [l2]; exact k2 x hx) (fun u hu hn => by rw [i2 _ (by omega)]; exact g6 u hu hn) c2 ⟨by rw [(e9 a (by omega)).2]; exact g8, by rw [(e9 a (by omega)).2]; exact g9, by rw [(e9 a (by omega)).2]; exact g10⟩)
  · intro u w2 hu ⟨f2, l2, i2, c2⟩ next o1 o2 o3 o5
    have hE2 := XE_fr f2 (by omega) hE
    have hP2 := XP_fr f2 hP
    have cu := c2 u (by omega)
    refine r_X5_loses_45 ?_
    rw [XP_r13 hP2]
    refine ⟨XP_s hP2, by omega, XE_s hE2, x_placeMany hE2 (r_X5_loses_54 ?_)⟩
    (try simp +decide (disch := omega) only [n_lit2, n_add, n_mul, n_tn, n_inT, n_ltT, n_ltF, n_leT, n_leF, n_eqT, n_eqF, n_eqm, n_meq, n_div, n_rem, nb_0, nb_1, nr_b, true_and, and_true, eq_self, Decidable.not_not, not_false_eq_true, not_true_eq_false, false_implies, true_implies, implies_true, Option.toList_some, Option.toList_none, List.cons_append, List.nil_append, xS_uI, xS_uL, xR_uI, xR_uL, xL_uI, xI_uL, xN_uI, xN_uL, xB_uI, xB_uL, add_nz, ge_256, and_self, XP_s hP2, XP_r2 hP2, XP_r3 hP2, XP_r7 hP2, XP_r8 hP2, XP_r9 hP2, XP_r11 hP2, XP_r12 hP2, XP_r13 hP2, XP_s1 hP2, XP_s2 hP2, XP_s3 hP2, XP_s4 hP2, XP_s5 hP2, XP_s6 hP2, XP_s7 hP2, cu]); (try simp (disch := omega) only [lc_eq, lc_le, lc_lt, lc_ge, lc_gt, mb_t1, mb_t0, bI_0, bI_1, n_in, n_lt, n_le, n_eq, Bool.not_eq_false, Bool.not_eq_true, Decidable.not_not, true_and, XP_s hP2, XP_r2 hP2, XP_r3 hP2, XP_r7 hP2, XP_r8 hP2, XP_r9 hP2, XP_r11 hP2, XP_r12 hP2, XP_r13 hP2, XP_s1 hP2, XP_s2 hP2, XP_s3 hP2, XP_s4 hP2, XP_s5 hP2, XP_s6 hP2, XP_s7 hP2, cu])
    have gn := gain u hu
    have e9 : lzc u (2 - side) o (gL s) (gC s) u = gC s u := by unfold lzc; rw [if_neg (by omega)]
    refine ⟨fun c => next _ ⟨xfr_tI f2 (by omega), l2, fun i hi => ?_, fun p hp => ?_⟩, fun c => next _ ⟨xfr_tI f2 (by omega), l2, fun i hi => ?_, fun p hp => ?_⟩⟩
    · rw [(xUpI_ne w2 _ _ _ i hi).1]; exact i2 i hi
    · have hno : mb o u = false ∨ gL s u = 2 - side := by
        cases z : mb o u with
        | false => exact Or.inl rfl
        | true =>
          refine Or.inr ?_
          apply Classical.byContradiction
          intro hne
          rw [gn.mpr ⟨z, hne⟩] at c; cases c
      rw [lzc_no hno, x_uI]
      by_cases z : p = u
      · subst z; rw [if_pos ⟨rfl, rfl⟩]
        have : ∀ v : Int32, v + nI 0 = v := fun v => by show v + 0 = v; exact Int32.add_zero v
        rw [this]
      · rw [if_neg (by omega)]; exact c2 p hp
    · rw [(xUpI_ne w2 _ _ _ i hi).1]; exact i2 i hi
    · obtain ⟨c3, c4⟩ := gn.mp c
      rw [x_uI]
      by_cases z : p = u
      · subst z; rw [if_pos ⟨rfl, rfl⟩, e9]
        unfold lzc; rw [if_pos ⟨by omega, c3, c4⟩]; rfl
      · rw [if_neg (by omega), c2 p hp]
        unfold lzc
        have : p < u + 1 ↔ p < u := by omega
        simp only [this]
theorem x_dusk (hN : bN B ≤ 36) (hE : XE B b w) (hP : XP a w) (hG : XG B s a w) (hg : gOk B s) (pl : Option Nat) (hp : ∀ p, pl = some p → p < bN B)
    (q : ∀ w', xfr a (a + 4) w w' → XG B (gS s, (lzA B s pl).1, (lzA B s pl).2, gD s, []) a w' → Q none w') : V_X5_dusk [.ref a, .int (plI pl)] w Q := by
  have ha := XP_ge hP
  have hl := hg.2.2.1
  have hd : gD s ≤ 200 := hg.2.2.2.2.1
  have h16 := hg.2.2.2.2.2.1
  have hO := hg.2.2.2.2.2.2.1
  refine e_X5_dusk (r_X5_dusk_0 ?_)
  unfold lzA at q
  have hle : ∀ k u, (lzs (bN B) (2 - gD s % 2) pl (gO s) (gL s) (gC s) k).1 u ≤ 2 := fun k u => lzs_le hl (by omega) k u
  refine upTo (gO s).length (fun k (w1 : xw) => xfr a (a + 4) w w1 ∧ XG B (gS s, (lzs (bN B) (2 - gD s % 2) pl (gO s) (gL s) (gC s) k).1, (lzs (bN B) (2 - gD s % 2) pl (gO s) (gL s) (gC s) k).2, gD s, gO s) a w1)
    (fun k w1 => T_X5_dusk Q 2 [some (.ref a), some (.int (plI pl)), some (.int (nI k))] [] w1) ?_ ?_ 0 w (by omega) ⟨xfr_refl _ _ _, hG⟩
  · intro w1 ⟨f1, g1⟩
    have hP1 := XP_fr f1 hP
    have r1 : xI w1 a 1 = nI (gO s).length := g1.2.1
    refine r_X5_dusk_2 ?_
    (try simp +decide (disch := omega) only [n_lit2, n_add, n_mul, n_tn, n_inT, n_ltT, n_ltF, n_leT, n_leF, n_eqT, n_eqF, n_eqm, n_meq, n_div, n_rem, nb_0, nb_1, nr_b, true_and, and_true, eq_self, Decidable.not_not, not_false_eq_true, not_true_eq_false, false_implies, true_implies, implies_true, Option.toList_some, Option.toList_none, List.cons_append, List.nil_append, xS_uI, xS_uL, xR_uI, xR_uL, xL_uI, xI_uL, xN_uI, xN_uL, xB_uI, xB_uL, add_nz, ge_256, and_self, XP_s hP1, r1]); (try simp (disch := omega) only [lc_eq, lc_le, lc_lt, lc_ge, lc_gt, mb_t1, mb_t0, bI_0, bI_1, n_in, n_lt, n_le, n_eq, Bool.not_eq_false, Bool.not_eq_true, Decidable.not_not, true_and, XP_s hP1, r1])
    refine q _ (xfr_tI f1 (by omega)) ?_
    obtain ⟨g1, g2, g3, g4, g5, g6, g7, g8, g9, g10⟩ := g1
    exact ⟨by rw [x_uI, if_neg (by omega)]; exact g1, by rw [x_uI, if_pos ⟨rfl, rfl⟩]; rfl, lsL_nil _, g4, g5, fun p hp hn => by rw [x_uI, if_neg (by omega)]; exact g6 p hp hn, fun p hp => by rw [x_uI, if_neg (by omega)]; exact g7 p hp, g8, g9, g10⟩
  · intro k w1 hk ⟨f1, g1⟩ next
    have hE1 := XE_fr f1 (by omega) hE
    have hP1 := XP_fr f1 hP
    have r1 : xI w1 a 1 = nI (gO s).length := g1.2.1
    have rk := lsL_get g1.2.2.1 hk
    have e45 : nI k + 1 = nI (k + 1) := n_add k 1
    have lose : hitG pl ((gO s).getD k 0) = false → V_X5_side [.ref a] w1 (fun v w2 => T_X5_dusk Q 35 [some (.ref a), some (.int (plI pl)), some (.int (nI k))] (v.toList ++ [.ref a]) w2) := by
      intro hh
      refine x_side hP1 g1 (by show gD s ≤ 300; omega) (r_X5_dusk_35 ?_)
      have rk' : xL w1 (a + 5) k = (gO s).getD k 0 := rk
      have om : (gO s).getD k 0 ∈ gO s := by
        rw [List.getD_eq_getElem?_getD, List.getElem?_eq_getElem hk]
        exact List.getElem_mem hk
      (try simp +decide (disch := omega) only [n_lit2, n_add, n_mul, n_tn, n_inT, n_ltT, n_ltF, n_leT, n_leF, n_eqT, n_eqF, n_eqm, n_meq, n_div, n_rem, nb_0, nb_1, nr_b, true_and, and_true, eq_self, Decidable.not_not, not_false_eq_true, not_true_eq_false, false_implies, true_implies, implies_true, Option.toList_some, Option.toList_none, List.cons_append, List.nil_append, xS_uI, xS_uL, xR_uI, xR_uL, xL_uI, xI_uL, xN_uI, xN_uL, xB_uI, xB_uL, add_nz, ge_256, and_self, XP_s hP1, XP_r2 hP1, XP_r3 hP1, XP_r7 hP1, XP_r8 hP1, XP_r9 hP1, XP_r11 hP1, XP_r12 hP1, XP_r13 hP1, XP_s1 hP1, XP_s2 hP1, XP_s3 hP1, XP_s4 hP1, XP_s5 hP1, XP_s6 hP1, XP_s7 hP1, rk']); (try simp (disch := omega) only [lc_eq, lc_le, lc_lt, lc_ge, lc_gt, mb_t1, mb_t0, bI_0, bI_1, n_in, n_lt, n_le, n_eq, Bool.not_eq_false, Bool.not_eq_true, Decidable.not_not, true_and, XP_s hP1, XP_r2 hP1, XP_r3 hP1, XP_r7 hP1, XP_r8 hP1, XP_r9 hP1, XP_r11 hP1, XP_r12 hP1, XP_r13 hP1, XP_s1 hP1, XP_s2 hP1, XP_s3 hP1, XP_s4 hP1, XP_s5 hP1, XP_s6 hP1, XP_s7 hP1, rk'])
      refine x_loses hN hE1 hP1 g1 (hle k) (by show gD s % 2 < 2; omega) _ (hO _ om) (fun w2 f2 g2 => r_X5_dusk_44 ?_)
      rw [e45]
      refine next w2 ⟨xfr_trans f1 f2 (by omega) (by omega), ?_⟩
      have eS : lzs (bN B) (2 - gD s % 2) pl (gO s) (gL s) (gC s) (k + 1) = (lz1 (bN B) (2 - gD s % 2) ((gO s).getD k 0) (lzs (bN B) (2 - gD s % 2) pl (gO s) (gL s) (gC s) k).1, lzc (bN B) (2 - gD s % 2) ((gO s).getD k 0) (lzs (bN B) (2 - gD s % 2) pl (gO s) (gL s) (gC s) k).1 (lzs (bN B) (2 - gD s % 2) pl (gO s) (gL s) (gC s) k).2) := by
        conv => lhs; unfold lzs
        rw [if_neg (by rw [hh]; simp)]
      rw [eS]; exact g2
    refine r_X5_dusk_2 ?_
    cases pl with
    | none =>
      have ep : plI none = -nI 1 := rfl
      rw [ep] at lose ⊢
      (try simp +decide (disch := omega) only [n_lit2, n_add, n_mul, n_tn, n_inT, n_ltT, n_ltF, n_leT, n_leF, n_eqT, n_eqF, n_eqm, n_meq, n_div, n_rem, nb_0, nb_1, nr_b, true_and, and_true, eq_self, Decidable.not_not, not_false_eq_true, not_true_eq_false, false_implies, true_implies, implies_true, Option.toList_some, Option.toList_none, List.cons_append, List.nil_append, xS_uI, xS_uL, xR_uI, xR_uL, xL_uI, xI_uL, xN_uI, xN_uL, xB_uI, xB_uL, add_nz, ge_256, and_self, XP_s hP1, r1]); (try simp (disch := omega) only [lc_eq, lc_le, lc_lt, lc_ge, lc_gt, mb_t1, mb_t0, bI_0, bI_1, n_in, n_lt, n_le, n_eq, Bool.not_eq_false, Bool.not_eq_true, Decidable.not_not, true_and, XP_s hP1, r1])
      exact lose rfl
    | some p =>
      have hpl := hp p rfl
      have ep : plI (some p) = nI p := rfl
      rw [ep] at lose next ⊢
      have rk' : xL w1 (a + 5) k = (gO s).getD k 0 := rk
      (try simp +decide (disch := omega) only [n_lit2, n_add, n_mul, n_tn, n_inT, n_ltT, n_ltF, n_leT, n_leF, n_eqT, n_eqF, n_eqm, n_meq, n_div, n_rem, nb_0, nb_1, nr_b, true_and, and_true, eq_self, Decidable.not_not, not_false_eq_true, not_true_eq_false, false_implies, true_implies, implies_true, Option.toList_some, Option.toList_none, List.cons_append, List.nil_append, xS_uI, xS_uL, xR_uI, xR_uL, xL_uI, xI_uL, xN_uI, xN_uL, xB_uI, xB_uL, add_nz, ge_256, and_self, XP_s hP1, XP_r2 hP1, XP_r3 hP1, XP_r7 hP1, XP_r8 hP1, XP_r9 hP1, XP_r11 hP1, XP_r12 hP1, XP_r13 hP1, XP_s1 hP1, XP_s2 hP1, XP_s3 hP1, XP_s4 hP1, XP_s5 hP1, XP_s6 hP1, XP_s7 hP1, r1, rk']); (try simp (disch := omega) only [lc_eq, lc_le, lc_lt, lc_ge, lc_gt, mb_t1, mb_t0, bI_0, bI_1, n_in, n_lt, n_le, n_eq, Bool.not_eq_false, Bool.not_eq_true, Decidable.not_not, true_and, XP_s hP1, XP_r2 hP1, XP_r3 hP1, XP_r7 hP1, XP_r8 hP1, XP_r9 hP1, XP_r11 hP1, XP_r12 hP1, XP_r13 hP1, XP_s1 hP1, XP_s2 hP1, XP_s3 hP1, XP_s4 hP1, XP_s5 hP1, XP_s6 hP1, XP_s7 hP1, r1, rk'])
      refine ⟨fun c => r_X5_dusk_44 ?_, fun c => lose c⟩
      rw [e45]
      refine next w1 ⟨f1, ?_⟩
      have eS : lzs (bN B) (2 - gD s % 2) (some p) (gO s) (gL s) (gC s) (k + 1) = lzs (bN B) (2 - gD s % 2) (some p) (gO s) (gL s) (gC s) k := by
        conv => lhs; unfold lzs
        rw [if_pos (show hitG (some p) ((gO s).getD k 0) = true from c)]
      rw [eS]; exact g1
theorem x_isIn {r n : Nat} {L : List Int64} (hr : xS w r = (52, 16)) (hL : lsL L (xL w r)) (hn : n = L.length) (h16 : n ≤ 16) (o : Int64) (q : Q (some (.int (bI (L.contains o)))) w) : V_X5_isIn [.long o, .ref r, .int (nI n)] w Q := by
  subst hn
  refine e_X5_isIn (r_X5_isIn_0 ?_)
  refine upTo L.length (fun k (_ : Unit) => (L.take k).contains o = false)
    (fun k _ => ∀ {o1 : Option Value}, T_X5_isIn Q 3 [some (.long o), o1, some (.ref r), some (.int (nI L.length)), some (.int (nI k))] [] w) ?_ ?_ 0 () (by omega) (by simp)
  · intro _ h o1
    rw [List.take_length] at h
    rw [h] at q
    refine r_X5_isIn_3 ?_
    (try simp +decide (disch := omega) only [n_lit2, n_add, n_mul, n_tn, n_inT, n_ltT, n_ltF, n_leT, n_leF, n_eqT, n_eqF, n_eqm, n_meq, n_div, n_rem, nb_0, nb_1, nr_b, true_and, and_true, eq_self, Decidable.not_not, not_false_eq_true, not_true_eq_false, false_implies, true_implies, implies_true, Option.toList_some, Option.toList_none, List.cons_append, List.nil_append, xS_uI, xS_uL, xR_uI, xR_uL, xL_uI, xI_uL, xN_uI, xN_uL, xB_uI, xB_uL, add_nz, ge_256, and_self]); (try simp (disch := omega) only [lc_eq, lc_le, lc_lt, lc_ge, lc_gt, mb_t1, mb_t0, bI_0, bI_1, n_in, n_lt, n_le, n_eq, Bool.not_eq_false, Bool.not_eq_true, Decidable.not_not, true_and])
    exact q
  · intro k _ hk h next o1
    have rk := lsL_get hL hk
    have tk := take_get hk
    refine r_X5_isIn_3 ?_
    (try simp +decide (disch := omega) only [n_lit2, n_add, n_mul, n_tn, n_inT, n_ltT, n_ltF, n_leT, n_leF, n_eqT, n_eqF, n_eqm, n_meq, n_div, n_rem, nb_0, nb_1, nr_b, true_and, and_true, eq_self, Decidable.not_not, not_false_eq_true, not_true_eq_false, false_implies, true_implies, implies_true, Option.toList_some, Option.toList_none, List.cons_append, List.nil_append, xS_uI, xS_uL, xR_uI, xR_uL, xL_uI, xI_uL, xN_uI, xN_uL, xB_uI, xB_uL, add_nz, ge_256, and_self, hr, rk]); (try simp (disch := omega) only [lc_eq, lc_le, lc_lt, lc_ge, lc_gt, mb_t1, mb_t0, bI_0, bI_1, n_in, n_lt, n_le, n_eq, Bool.not_eq_false, Bool.not_eq_true, Decidable.not_not, true_and, hr, rk])
    refine ⟨fun c => next () ?_, fun c => ?_⟩
    · rw [tk, cont_app, h]
      have : ¬ (o = L[k]?.getD 0) := fun z => c (by rw [List.getD_eq_getElem?_getD]; exact z.symm)
      simp [this]
    · have : L.contains o = true := by
        rw [← c, List.contains_iff_mem, List.getD_eq_getElem?_getD, List.getElem?_eq_getElem hk]
        exact List.getElem_mem hk
      rw [this] at q; exact q
end
theorem land_iff {B : Bd} {l : Nat → Nat} {o : Int64} {side : Nat} (hN : bN B ≤ 36) (ho : ∀ p, mb o p = true → p < bN B) : (o &&& (ldL l side ^^^ (-1)) = 0) ↔ allLandG B l o side = true := by
  unfold allLandG
  rw [mb_zero, List.all_eq_true]
  constructor
  · intro h p hp
    have hp := List.mem_range.mp hp
    have a := h p (by omega)
    rw [mb_and, mb_not _ (by omega), mb_ldL _ _ (by omega)] at a
    cases z : mb o p with
    | false => rfl
    | true =>
      rw [z] at a
      simp [show p < 36 from by omega] at a
      simp [a]
  · intro h p hp
    rw [mb_and, mb_not _ hp, mb_ldL _ _ hp]
    cases z : mb o p with
    | false => rfl
    | true =>
      have hl := ho p z
      have a := h p (List.mem_range.mpr hl)
      rw [z] at a
      simp at a
      simp [a, show p < 36 from by omega]
theorem ptsL_in {B : Bd} {e : Int64} (hN : bN B ≤ 36) {o : Int64} (h : o ∈ ptsL B e (bN B)) : ∀ p, mb o p = true → p < bN B := fun p hp => ((ptsL_ok hN (Nat.le_refl _)).1 o h p hp).1
section
variable {Q : Option Value → xw → Prop} {w : xw} {B : Bd} {s : GS} {a b : Nat}
set_option maxHeartbeats 2000000 in
/-- the end of a day: parts that come to be owed -/
theorem x_goes2 (hB : bOk B ∨ bN B = 0) (hE : XE B b w) (hP : XP a w) {t : GS} {side : Nat} (h2 : side < 2) (hG : XG B t a w) (hO : gO t = []) (hd : gD t ≤ 200) (hs : sOk B (gS t)) (h0 : ∀ p, bN B ≤ p → gS t p = 0) {W : List Int64} (hW : W.length ≤ 16) (hA : lsL W (xL w (a + 6)))
    (q : ∀ w', xfr a (a + 7) w w' → XG B (gS t, gL t, gC t, gD t + 1, (partsG B (gS t) side).filter (fun o => !(allLandG B (gL t) o side || W.contains o))) a w' → Q none w') : ∀ {o1 o2 o5 o6 : Option Value}, T_X5_goes Q 33 [some (.ref a), o1, o2, some (.int (nI side)), some (.int (nI W.length)), o5, o6] [] w := by
  intro o1 o2 o5 o6
  have ha := XP_ge hP
  have hN : bN B ≤ 36 := bN36 hB
  have hln : (partsG B (gS t) side).length ≤ 16 := by
    rcases hB with h | h
    · exact partsG_len B h _ _
    · unfold partsG; rw [h]; exact Nat.zero_le _
  refine r_X5_goes_33 ?_
  rw [XP_r12 hP]
  refine ⟨XP_s hP, by omega, XP_s hP, x_parts hB hE hP hG hs h0 h2 (by omega) (by omega) (XP_s7 hP) (fun w0 i0 f0 g0 _ l0 k0 => r_X5_goes_42 ?_)⟩
  have oin : ∀ o, o ∈ partsG B (gS t) side → ∀ p, mb o p = true → p < bN B := fun o ho => ptsL_in hN ho
  generalize partsG B (gS t) side = L at *
  generalize hF : (fun o => !(allLandG B (gL t) o side || W.contains o)) = F at *
  have hA0 : lsL W (xL w0 (a + 6)) := by rw [k0 (by omega)]; exact hA
  have fw : xfr a (a + 7) w w0 := ⟨f0.1, f0.2.1, f0.2.2.1, fun i hi => i0 i (by omega) (by omega)⟩
  have flen : ∀ k, ((L.take k).filter F).length ≤ 16 := fun k => Nat.le_trans (List.length_filter_le _ _) (by rw [List.length_take]; omega)
  refine upTo L.length (fun k (w1 : xw) => xfr a (a + 5) w0 w1 ∧ XG B (gS t, gL t, gC t, gD t, (L.take k).filter F) a w1)
    (fun k w1 => ∀ {o1 o2 : Option Value}, T_X5_goes Q 47 [some (.ref a), o1, o2, some (.int (nI side)), some (.int (nI W.length)), some (.int (nI L.length)), some (.int (nI k))] [] w1) ?_ ?_ 0 w0 (by omega) ⟨xfr_refl _ _ _, by
      have : (gS t, gL t, gC t, gD t, (L.take 0).filter F) = t := by
        rw [show (L.take 0).filter F = gO t from by rw [hO]; rfl]
      rw [this]; exact g0⟩
  · intro w1 ⟨f1, g1⟩ o1 o2
    have hP1 := XP_fr f1 (XP_fr f0 hP)
    have r1 : xI w1 a 0 = nI (gD t) := g1.1
    refine r_X5_goes_47 ?_
    (try simp +decide (disch := omega) only [n_lit2, n_add, n_mul, n_tn, n_inT, n_ltT, n_ltF, n_leT, n_leF, n_eqT, n_eqF, n_eqm, n_meq, n_div, n_rem, nb_0, nb_1, nr_b, true_and, and_true, eq_self, Decidable.not_not, not_false_eq_true, not_true_eq_false, false_implies, true_implies, implies_true, Option.toList_some, Option.toList_none, List.cons_append, List.nil_append, xS_uI, xS_uL, xR_uI, xR_uL, xL_uI, xI_uL, xN_uI, xN_uL, xB_uI, xB_uL, add_nz, ge_256, and_self, XP_s hP1, r1]); (try simp (disch := omega) only [lc_eq, lc_le, lc_lt, lc_ge, lc_gt, mb_t1, mb_t0, bI_0, bI_1, n_in, n_lt, n_le, n_eq, Bool.not_eq_false, Bool.not_eq_true, Decidable.not_not, true_and, XP_s hP1, r1])
    rw [List.take_length] at g1
    refine q _ (xfr_tI (xfr_trans fw f1 (lo := a) (hi := a + 7) (by omega) (by omega)) (by omega)) ?_
    obtain ⟨g1, g2, g3, g4, g5, g6, g7, g8, g9, g10⟩ := g1
    exact ⟨by rw [x_uI, if_pos ⟨rfl, rfl⟩], by rw [x_uI, if_neg (by omega)]; exact g2, g3, g4, g5, fun p hp hn => by rw [x_uI, if_neg (by omega)]; exact g6 p hp hn, fun p hp => by rw [x_uI, if_neg (by omega)]; exact g7 p hp, g8, g9, g10⟩
  · intro k w1 hk ⟨f1, g1⟩ next o1 o2
    have hP1 := XP_fr f1 (XP_fr f0 hP)
    have lA : lsL W (xL w1 (a + 6)) := by rw [(f1.2.2.2 (a + 6) (by omega)).2]; exact hA0
    have lL : xL w1 (a + 7) k = L.getD k 0 := by rw [(f1.2.2.2 (a + 7) (by omega)).2]; exact lsL_get l0 hk
    have tk := take_get hk
    have om : L.getD k 0 ∈ L := by
      rw [List.getD_eq_getElem?_getD, List.getElem?_eq_getElem hk]
      exact List.getElem_mem hk
    have ho := oin _ om
    have r3 : xL w1 (a + 2) side = ldL (gL t) side := g1.2.2.2.2.1 side h2
    have li := land_iff (l := gL t) (side := side) hN ho
    have r1 : xI w1 a 1 = nI ((L.take k).filter F).length := g1.2.1
    have fl := flen k
    refine r_X5_goes_47 ?_
    (try simp +decide (disch := omega) only [n_lit2, n_add, n_mul, n_tn, n_inT, n_ltT, n_ltF, n_leT, n_leF, n_eqT, n_eqF, n_eqm, n_meq, n_div, n_rem, nb_0, nb_1, nr_b, true_and, and_true, eq_self, Decidable.not_not, not_false_eq_true, not_true_eq_false, false_implies, true_implies, implies_true, Option.toList_some, Option.toList_none, List.cons_append, List.nil_append, xS_uI, xS_uL, xR_uI, xR_uL, xL_uI, xI_uL, xN_uI, xN_uL, xB_uI, xB_uL, add_nz, ge_256, and_self, XP_s hP1, XP_r2 hP1, XP_r3 hP1, XP_r7 hP1, XP_r8 hP1, XP_r9 hP1, XP_r11 hP1, XP_r12 hP1, XP_r13 hP1, XP_s1 hP1, XP_s2 hP1, XP_s3 hP1, XP_s4 hP1, XP_s5 hP1, XP_s6 hP1, XP_s7 hP1, lL]); (try simp (disch := omega) only [lc_eq, lc_le, lc_lt, lc_ge, lc_gt, mb_t1, mb_t0, bI_0, bI_1, n_in, n_lt, n_le, n_eq, Bool.not_eq_false, Bool.not_eq_true, Decidable.not_not, true_and, XP_s hP1, XP_r2 hP1, XP_r3 hP1, XP_r7 hP1, XP_r8 hP1, XP_r9 hP1, XP_r11 hP1, XP_r12 hP1, XP_r13 hP1, XP_s1 hP1, XP_s2 hP1, XP_s3 hP1, XP_s4 hP1, XP_s5 hP1, XP_s6 hP1, XP_s7 hP1, lL])
    generalize L.getD k 0 = o at *
    refine x_isIn (XP_s6 hP1) lA rfl hW o (r_X5_goes_70 ?_)
    (try simp +decide (disch := omega) only [n_lit2, n_add, n_mul, n_tn, n_inT, n_ltT, n_ltF, n_leT, n_leF, n_eqT, n_eqF, n_eqm, n_meq, n_div, n_rem, nb_0, nb_1, nr_b, true_and, and_true, eq_self, Decidable.not_not, not_false_eq_true, not_true_eq_false, false_implies, true_implies, implies_true, Option.toList_some, Option.toList_none, List.cons_append, List.nil_append, xS_uI, xS_uL, xR_uI, xR_uL, xL_uI, xI_uL, xN_uI, xN_uL, xB_uI, xB_uL, add_nz, ge_256, and_self, XP_s hP1, XP_r2 hP1, XP_r3 hP1, XP_r7 hP1, XP_r8 hP1, XP_r9 hP1, XP_r11 hP1, XP_r12 hP1, XP_r13 hP1, XP_s1 hP1, XP_s2 hP1, XP_s3 hP1, XP_s4 hP1, XP_s5 hP1, XP_s6 hP1, XP_s7 hP1, lL, r3, li, r1]); (try simp (disch := omega) only [lc_eq, lc_le, lc_lt, lc_ge, lc_gt, mb_t1, mb_t0, bI_0, bI_1, n_in, n_lt, n_le, n_eq, Bool.not_eq_false, Bool.not_eq_true, Decidable.not_not, true_and, XP_s hP1, XP_r2 hP1, XP_r3 hP1, XP_r7 hP1, XP_r8 hP1, XP_r9 hP1, XP_r11 hP1, XP_r12 hP1, XP_r13 hP1, XP_s1 hP1, XP_s2 hP1, XP_s3 hP1, XP_s4 hP1, XP_s5 hP1, XP_s6 hP1, XP_s7 hP1, lL, r3, li, r1])
    have skip : F o = false → ∀ {o1 o2 : Option Value}, T_X5_goes Q 47 [some (.ref a), o1, o2, some (.int (nI side)), some (.int (nI W.length)), some (.int (nI L.length)), some (.int (nI (k + 1)))] [] w1 := fun hFo => by
      refine next w1 ⟨f1, ?_⟩
      have e2 : (L.take (k + 1)).filter F = (L.take k).filter F := by
        rw [tk, List.filter_append]; simp [hFo]
      rw [e2]; exact g1
    refine ⟨fun c => skip ?_, fun c => ⟨fun c2 => skip ?_, fun c2 => ?_⟩⟩
    · rw [← hF]; show (!_) = false; rw [c]; simp
    · rw [← hF]; show (!_) = false; rw [c2]; simp
    · have hFo : F o = true := by
        rw [← hF]; show (!_) = true
        have c3 : allLandG B (gL t) o side = false := by simpa using c2
        rw [c, c3]; rfl
      have e2 : (L.take (k + 1)).filter F = (L.take k).filter F ++ [o] := by
        rw [tk, List.filter_append]; congr 1; simp [hFo]
      have fl2 := flen (k + 1)
      rw [e2, List.length_append, List.length_singleton] at fl2
      (try simp +decide (disch := omega) only [n_lit2, n_add, n_mul, n_tn, n_inT, n_ltT, n_ltF, n_leT, n_leF, n_eqT, n_eqF, n_eqm, n_meq, n_div, n_rem, nb_0, nb_1, nr_b, true_and, and_true, eq_self, Decidable.not_not, not_false_eq_true, not_true_eq_false, false_implies, true_implies, implies_true, Option.toList_some, Option.toList_none, List.cons_append, List.nil_append, xS_uI, xS_uL, xR_uI, xR_uL, xL_uI, xI_uL, xN_uI, xN_uL, xB_uI, xB_uL, add_nz, ge_256, and_self, XP_s hP1, XP_r2 hP1, XP_r3 hP1, XP_r7 hP1, XP_r8 hP1, XP_r9 hP1, XP_r11 hP1, XP_r12 hP1, XP_r13 hP1, XP_s1 hP1, XP_s2 hP1, XP_s3 hP1, XP_s4 hP1, XP_s5 hP1, XP_s6 hP1, XP_s7 hP1, lL, r1]); (try simp (disch := omega) only [lc_eq, lc_le, lc_lt, lc_ge, lc_gt, mb_t1, mb_t0, bI_0, bI_1, n_in, n_lt, n_le, n_eq, Bool.not_eq_false, Bool.not_eq_true, Decidable.not_not, true_and, XP_s hP1, XP_r2 hP1, XP_r3 hP1, XP_r7 hP1, XP_r8 hP1, XP_r9 hP1, XP_r11 hP1, XP_r12 hP1, XP_r13 hP1, XP_s1 hP1, XP_s2 hP1, XP_s3 hP1, XP_s4 hP1, XP_s5 hP1, XP_s6 hP1, XP_s7 hP1, lL, r1])
      refine ⟨by omega, next _ ⟨xfr_tL (xfr_tI f1 (by omega)) (by omega), ?_⟩⟩
      rw [e2]
      obtain ⟨g1, g2, g3, g4, g5, g6, g7, g8, g9, g10⟩ := g1
      refine ⟨?_, ?_, ?_, ?_, ?_, ?_, ?_, ?_, ?_, ?_⟩
      · rw [xI_uL, x_uI, if_neg (by omega)]; exact g1
      · rw [xI_uL, x_uI, if_pos ⟨rfl, rfl⟩]
        show nI _ = nI (((L.take k).filter F) ++ [o]).length
        rw [List.length_append, List.length_singleton]
      · refine lsL_app g3 _ _ (fun j hj => ?_) ?_
        · rw [x_uL, if_neg (by show ¬ _; have hj : j < ((L.take k).filter F).length := hj; omega)]; rfl
        · rw [x_uL, if_pos ⟨rfl, rfl⟩]
      · intro x hx; rw [x_uL, if_neg (by omega)]; exact g4 x hx
      · intro x hx; rw [x_uL, if_neg (by omega)]; exact g5 x hx
      · intro p hp hn; rw [xI_uL, x_uI, if_neg (by omega)]; exact g6 p hp hn
      · intro p hp; rw [xI_uL, x_uI, if_neg (by omega)]; exact g7 p hp
      · rw [x_uL, if_neg (by omega)]; exact g8
      · rw [x_uL, if_neg (by omega)]; exact g9
      · rw [x_uL, if_neg (by omega)]; exact g10
theorem x_goes (hB : bOk B ∨ bN B = 0) (hE : XE B b w) (hP : XP a w) (hG : XG B s a w) (hg : gOk B s) {k : Nat} {kI : Int32} (pl : Option Nat) (hp : ∀ p, pl = some p → p < bN B ∧ k < bK B ∧ kI = nI k ∧ gS s p = 0)
    (q : ∀ w', xfr a (a + 7) w w' → XG B (goG B s k pl) a w' → Q none w') : V_X5_goes [.ref a, .int kI, .int (plI pl)] w Q := by
  have ha := XP_ge hP
  have hN : bN B ≤ 36 := bN36 hB
  have hd : gD s ≤ 200 := hg.2.2.2.2.1
  have h2 : gD s % 2 < 2 := by omega
  have hln : (partsG B (gS s) (gD s % 2)).length ≤ 16 := by
    rcases hB with h | h
    · exact partsG_len B h _ _
    · unfold partsG; rw [h]; exact Nat.zero_le _
  refine e_X5_goes (r_X5_goes_0 ⟨XP_s hP, x_side hP hG (by omega) (r_X5_goes_4 ?_)⟩)
  rw [XP_r11 hP]
  refine ⟨XP_s hP, by omega, XP_s hP, x_parts hB hE hP hG hg.1 hg.2.1 h2 (by omega) (by omega) (XP_s6 hP) (fun w0 i0 f0 g0 _ l0 _ => r_X5_goes_14 ?_)⟩
  have fw : xfr a (a + 7) w w0 := ⟨f0.1, f0.2.1, f0.2.2.1, fun i hi => i0 i (by omega) (by omega)⟩
  have hE0 := XE_fr f0 (by omega) hE
  have hP0 := XP_fr f0 hP
  have two : ∀ (st : Nat → Nat) (w1 : xw), xfr a (a + 7) w w1 → lsL (partsG B (gS s) (gD s % 2)) (xL w1 (a + 6)) → sOk B st → (∀ p, bN B ≤ p → st p = 0) → gOk B (st, gL s, gC s, gD s, gO s) → XG B (st, gL s, gC s, gD s, gO s) a w1 →
      (∀ w', xfr a (a + 7) w w' → XG B (st, (lzA B s pl).1, (lzA B s pl).2, gD s + 1, (partsG B st (gD s % 2)).filter (fun o => !(allLandG B (lzA B s pl).1 o (gD s % 2) || (partsG B (gS s) (gD s % 2)).contains o))) a w' → Q none w') →
      ∀ {o1 o5 o6 : Option Value}, T_X5_goes Q 28 [some (.ref a), o1, some (.int (plI pl)), some (.int (nI (gD s % 2))), some (.int (nI (partsG B (gS s) (gD s % 2)).length)), o5, o6] [] w1 := by
    intro st w1 f1 l1 s1 z1 k1 g1 qq o1 o5 o6
    have hE1 := XE_fr (xfr_wk f1 (lo := 345) (hi := 793) (by omega)) (by omega) hE
    have hP1 := XP_fr f1 hP
    refine r_X5_goes_28 ⟨XP_s hP1, x_dusk hN hE1 hP1 g1 k1 pl (fun p h => (hp p h).1) (fun w2 f2 g2 => ?_)⟩
    have hE2 := XE_fr (xfr_wk f2 (lo := 345) (hi := 793) (by omega)) (by omega) hE1
    have hP2 := XP_fr f2 hP1
    refine x_goes2 hB hE2 hP2 h2 g2 rfl hd s1 z1 hln (by rw [(f2.2.2.2 (a + 6) (by omega)).2]; exact l1) (fun w3 f3 g3 => qq w3 (xfr_trans f1 (xfr_trans f2 f3 (lo := a) (hi := a + 7) (by omega) (by omega)) (by omega) (by omega)) g3)
  cases pl with
  | none =>
    have ep : plI none = -nI 1 := rfl
    rw [ep] at two ⊢
    (try simp +decide (disch := omega) only [n_lit2, n_add, n_mul, n_tn, n_inT, n_ltT, n_ltF, n_leT, n_leF, n_eqT, n_eqF, n_eqm, n_meq, n_div, n_rem, nb_0, nb_1, nr_b, true_and, and_true, eq_self, Decidable.not_not, not_false_eq_true, not_true_eq_false, false_implies, true_implies, implies_true, Option.toList_some, Option.toList_none, List.cons_append, List.nil_append, xS_uI, xS_uL, xR_uI, xR_uL, xL_uI, xI_uL, xN_uI, xN_uL, xB_uI, xB_uL, add_nz, ge_256, and_self]); (try simp (disch := omega) only [lc_eq, lc_le, lc_lt, lc_ge, lc_gt, mb_t1, mb_t0, bI_0, bI_1, n_in, n_lt, n_le, n_eq, Bool.not_eq_false, Bool.not_eq_true, Decidable.not_not, true_and])
    refine two (gS s) w0 fw l0 hg.1 hg.2.1 hg g0 (fun w' f' g' => q w' f' ?_)
    have e0 : (partsG B (gS s) (gD s % 2)).filter (fun o => !(allLandG B (lzA B s none).1 o (gD s % 2) || (partsG B (gS s) (gD s % 2)).contains o)) = [] := by
      rw [List.filter_eq_nil_iff]
      intro o ho
      have : (partsG B (gS s) (gD s % 2)).contains o = true := List.contains_iff_mem.mpr ho
      rw [this]; simp
    rw [e0] at g'; exact g'
  | some p =>
    obtain ⟨h1, h3, h4, h5⟩ := hp p rfl
    subst h4
    have hB1 : bOk B := by
      rcases hB with h | h
      · exact h
      · omega
    have hK := hB1.2.2.2.2.2.1
    have ep : plI (some p) = nI p := rfl
    rw [ep] at two ⊢
    (try simp +decide (disch := omega) only [n_lit2, n_add, n_mul, n_tn, n_inT, n_ltT, n_ltF, n_leT, n_leF, n_eqT, n_eqF, n_eqm, n_meq, n_div, n_rem, nb_0, nb_1, nr_b, true_and, and_true, eq_self, Decidable.not_not, not_false_eq_true, not_true_eq_false, false_implies, true_implies, implies_true, Option.toList_some, Option.toList_none, List.cons_append, List.nil_append, xS_uI, xS_uL, xR_uI, xR_uL, xL_uI, xI_uL, xN_uI, xN_uL, xB_uI, xB_uL, add_nz, ge_256, and_self, XP_s hP0]); (try simp (disch := omega) only [lc_eq, lc_le, lc_lt, lc_ge, lc_gt, mb_t1, mb_t0, bI_0, bI_1, n_in, n_lt, n_le, n_eq, Bool.not_eq_false, Bool.not_eq_true, Decidable.not_not, true_and, XP_s hP0])
    have ok2 := gOk_up hg (p := p) h3 h2 h1
    refine x_lays hB1 hE0 hP0 g0 h2 h3 h1 h5 (fun w1 f1 g1 => ?_)
    refine two (upN (gS s) p (2 + 2 * k + gD s % 2)) w1 (xfr_trans fw f1 (by omega) (by omega)) (by rw [(f1.2.2.2 (a + 6) (by omega)).2]; exact l0) ok2.1 ok2.2.1 ok2 g1 (fun w' f' g' => q w' f' g')
end
