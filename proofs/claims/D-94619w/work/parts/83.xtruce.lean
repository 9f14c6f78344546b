/-! X: truces -/
section
variable {Q : Option Value → xw → Prop} {w : xw} {B : Bd} {s t : GS} {a b : Nat} {H : List GS}
theorem lzA_nil {B : Bd} {st l : Nat → Nat} {c : Nat → Int32} {d : Nat} {pl : Option Nat} : lzA B (st, l, c, d, []) pl = (l, c) := rfl
theorem x_isBreaking (hB : bOk B) (hA : XA B b s w) (hg : gOk B s) {side kind p : Nat} (hs : side < 2) (hk : kind < bK B) (hp : p < bN B)
    (q : ∀ w', xfQ w w' → XG B s 345 w' → Q (some (.int (bI (trF B s side kind p)))) w') : V_X0_isBreaking [.ref 256, .int (nI side), .int (nI kind), .int (nI p)] w Q := by
  have hN := hB.2.2.2.2.1
  have hK := hB.2.2.2.2.2.1
  obtain ⟨hE, hO, hG⟩ := id hA
  have hP := XO_n hO
  have hT := XO_t hO
  have h16 := hg.2.2.2.2.2.1
  refine e_X0_isBreaking (r_X0_isBreaking_0 ?_)
  rw [XO_7 hO]
  refine ⟨XE_s hE, by omega, XP_s hP, x_has hP hG (by omega) (r_X0_isBreaking_8 ?_)⟩
  rw [XO_11 hO, XO_7 hO]
  by_cases z : gS s p = 0
  · rw [decide_eq_false (by simp [z])]
    refine ⟨fun _ => ⟨XE_s hE, by omega, XE_s hE, by omega, XP_s hT, x_copy hT hP (by omega) hG h16 (fun w1 f1 g1 => r_X0_isBreaking_24 ?_)⟩, fun z => absurd rfl z⟩
    have hE1 := XE_fr f1 (by omega) hE
    have hO1 := XO_fr f1 hO
    have hG1 := XG_fr f1 (by omega) hG
    have hT1 := XO_t hO1
    (try simp +decide (disch := omega) only [n_lit2, n_add, n_mul, n_tn, n_inT, n_ltT, n_ltF, n_leT, n_leF, n_eqT, n_eqF, n_eqm, n_meq, n_div, n_rem, nb_0, nb_1, nr_b, true_and, and_true, eq_self, Decidable.not_not, not_false_eq_true, not_true_eq_false, false_implies, true_implies, implies_true, Option.toList_some, Option.toList_none, List.cons_append, List.nil_append, xS_uI, xS_uL, xR_uI, xR_uL, xL_uI, xI_uL, xN_uI, xN_uL, xB_uI, xB_uL, add_nz, ge_256, and_self, XE_s hE1, XO_11 hO1, XP_s hT1]); (try simp (disch := omega) only [lc_eq, lc_le, lc_lt, lc_ge, lc_gt, mb_t1, mb_t0, bI_0, bI_1, n_in, n_lt, n_le, n_eq, Bool.not_eq_false, Bool.not_eq_true, Decidable.not_not, true_and, XE_s hE1, XO_11 hO1, XP_s hT1])
    generalize hw2 : xUpI (xUpI w1 675 0 (nI side)) 675 1 (nI 0) = w2
    have f2 : xfr 675 680 w1 w2 := by rw [← hw2]; exact xfr_tI (xfr_tI (xfr_refl _ _ w1) (by omega)) (by omega)
    have g2 : XG B (gS s, gL s, gC s, side, []) 675 w2 := by
      obtain ⟨g1, g2, g3, g4, g5, g6, g7, g8, g9, g10⟩ := g1
      rw [← hw2]
      refine ⟨by rw [x_uI, if_neg (by omega), x_uI, if_pos ⟨rfl, rfl⟩], by rw [x_uI, if_pos ⟨rfl, rfl⟩]; rfl, lsL_nil _, g4, g5, fun p hp hn => by rw [x_uI, if_neg (by omega), x_uI, if_neg (by omega)]; exact g6 p hp hn, fun p hp => by rw [x_uI, if_neg (by omega), x_uI, if_neg (by omega)]; exact g7 p hp, g8, g9, g10⟩
    clear hw2
    have hE2 := XE_fr f2 (by omega) hE1
    have hO2 := XO_fr f2 hO1
    have ok2 : gOk B (gS s, gL s, gC s, side, []) := ⟨hg.1, hg.2.1, hg.2.2.1, hg.2.2.2.1, by show side ≤ 200; omega, Nat.zero_le _, (fun o h => absurd (show o ∈ ([] : List Int64) from h) List.not_mem_nil), List.Pairwise.nil⟩
    rw [show nI p = plI (some p) from rfl]
    refine x_goes (Or.inl hB) hE2 (XO_t hO2) g2 ok2 (some p) (fun p' h => by cases h; exact ⟨hp, hk, rfl, z⟩) (fun w3 f3 g3 => r_X0_isBreaking_49 ?_)
    have hE3 := XE_fr f3 (by omega) hE2
    have hO3 := XO_fr f3 hO2
    have fq : xfQ w w3 := xfQ_then (xfQ_then (xfQ_of f1 (by omega)) f2 (by omega)) f3 (by omega)
    have q := q w3 fq (XG_fr f3 (by omega) (XG_fr f2 (by omega) hG1))
    have es : side % 2 = side := Nat.mod_eq_of_lt hs
    have eo : gO (goG B (gS s, gL s, gC s, side, []) kind (some p)) = newG B (upN (gS s) p (2 + 2 * kind + side)) (gL s) side (partsG B (gS s) side) := by
      show newG B (upN (gS s) p (2 + 2 * kind + side % 2)) (gL s) (side % 2) (partsG B (gS s) (side % 2)) = _
      rw [es]
    have r1 : xI w3 675 1 = nI (newG B (upN (gS s) p (2 + 2 * kind + side)) (gL s) side (partsG B (gS s) side)).length := by rw [g3.2.1, eo]
    have hl := newG_len hB (upN (gS s) p (2 + 2 * kind + side)) (gL s) side (partsG B (gS s) side)
    unfold trF at q
    rw [decide_eq_true z, Bool.true_and] at q
    generalize (newG B (upN (gS s) p (2 + 2 * kind + side)) (gL s) side (partsG B (gS s) side)).length = L at *
    (try simp +decide (disch := omega) only [n_lit2, n_add, n_mul, n_tn, n_inT, n_ltT, n_ltF, n_leT, n_leF, n_eqT, n_eqF, n_eqm, n_meq, n_div, n_rem, nb_0, nb_1, nr_b, true_and, and_true, eq_self, Decidable.not_not, not_false_eq_true, not_true_eq_false, false_implies, true_implies, implies_true, Option.toList_some, Option.toList_none, List.cons_append, List.nil_append, xS_uI, xS_uL, xR_uI, xR_uL, xL_uI, xI_uL, xN_uI, xN_uL, xB_uI, xB_uL, add_nz, ge_256, and_self, XE_s hE3, XO_11 hO3, XP_s (XO_t hO3), r1]); (try simp (disch := omega) only [lc_eq, lc_le, lc_lt, lc_ge, lc_gt, mb_t1, mb_t0, bI_0, bI_1, n_in, n_lt, n_le, n_eq, Bool.not_eq_false, Bool.not_eq_true, Decidable.not_not, true_and, XE_s hE3, XO_11 hO3, XP_s (XO_t hO3), r1])
    refine ⟨fun c => ?_, fun c => ?_⟩
    · rw [decide_eq_false (by omega)] at q; exact q
    · rw [decide_eq_true (by omega)] at q; exact q
  · rw [decide_eq_true z]
    have q := q w (xfQ_refl w) hG
    unfold trF at q
    rw [decide_eq_false z, Bool.false_and] at q
    exact ⟨fun z => absurd z (by decide), fun _ => ⟨nr_0, q⟩⟩
theorem x_truce (hB : bOk B ∨ bN B = 0) (hK : bK B ≤ 5) (hA : XA B b s w) (hg : gOk B s) (k : Int32)
    (q0 : ¬ (bN B ≠ 0 ∧ truOk k) → Q (some (.int (-nI 1))) w) (q1 : bN B ≠ 0 → truOk k → ∀ w', xfQ w w' → XG B s 345 w' → Q (some (.int (truR B s k))) w') : V_X0_truce [.ref 256, .int k] w Q := by
  have hN : bN B ≤ 36 := bN36 hB
  obtain ⟨hE, hO, hG⟩ := id hA
  have eN : (nI (bN B) = (0 : Int32)) ↔ bN B = 0 := n_eq (b := 0) (by omega) (by omega)
  have z1 : (-1 : Int32).toInt = -1 := by decide
  have z2 : (2 : Int32).toInt = 2 := by decide
  refine e_X0_truce (r_X0_truce_0 ⟨XE_s hE, x_placeMany hE (r_X0_truce_4 ?_)⟩)
  rw [eN]
  refine ⟨fun c => ⟨trivial, q0 (fun z => z.1 c)⟩, fun c => x_is _ _ _ (r_X0_truce_13 ⟨fun c1 => ?_, fun c1 => ⟨trivial, q0 (fun z => ?_)⟩⟩)⟩
  rotate_left
  · have := bI_nn0 c1
    rw [decide_eq_false_iff_not, z1, z2] at this; exact this z.2
  have c2 := bI_n0 c1
  rw [decide_eq_true_eq, z1, z2] at c2
  have hB1 : bOk B := hB.elim id (fun h => absurd h c)
  have q := q1 c c2
  unfold truR at q
  refine upTo 2 (fun side (w2 : xw) => xfQ w w2 ∧ XG B s 345 w2 ∧ ∀ j, j < bN B * (bK B * side) → trI B s j = false) (fun side w2 => ∀ {o3 o4 : Option Value}, T_X0_truce Q 20 [some (.ref 256), some (.int k), some (.int (nI side)), o3, o4] [] w2) ?_ ?_ 0 w (by omega) ⟨xfQ_refl w, hG, fun j hj => by simp at hj⟩
  · intro w2 ⟨f2, g2, n2⟩ o3 o4
    have q := q w2 f2 g2
    rw [fstP_none n2] at q
    dsimp only at q
    refine r_X0_truce_20 ⟨fun _ => ⟨fun c3 => ⟨trivial, ?_⟩, fun c3 => ⟨trivial, ?_⟩⟩, fun c3 => absurd (by decide) c3⟩
    · rw [if_neg (show ¬ k = -nI 1 from c3)] at q; exact q
    · rw [if_pos (show k = -nI 1 from Decidable.not_not.mp c3)] at q; exact q
  · intro side w2 hs ⟨f2, g2, n2⟩ next o3 o4
    have e2 : ((2 : Int32) ≤ nI side) ↔ 2 ≤ side := n_le (a := 2) (by omega) (by omega)
    have es : nI side + 1 = nI (side + 1) := n_add _ 1
    refine r_X0_truce_20 ?_
    rw [e2]
    refine ⟨fun z => by omega, fun _ => ?_⟩
    refine upTo (bK B) (fun kind (w3 : xw) => xfQ w w3 ∧ XG B s 345 w3 ∧ ∀ j, j < bN B * (bK B * side + kind) → trI B s j = false) (fun kind w3 => ∀ {o4 : Option Value}, T_X0_truce Q 27 [some (.ref 256), some (.int k), some (.int (nI side)), some (.int (nI kind)), o4] [] w3) ?_ ?_ 0 w2 (by omega) ⟨f2, g2, n2⟩
    · intro w3 ⟨f3, g3, n3⟩ o4
      have hE3 := XE_fQ f3 hE
      refine r_X0_truce_27 ?_
      rw [XE_b hE3]
      refine ⟨XE_s hE3, hE3.2.1.1.1, XE_bs hE3, hE3.2.2.1.1.1, XE_ks hE3, x_size hE3 (r_X0_truce_40 ⟨fun _ => ?_, fun z => absurd (Int32.le_refl _) z⟩)⟩
      rw [es]
      refine next w3 ⟨f3, g3, ?_⟩
      rw [Nat.mul_add (bK B), Nat.mul_one]; exact n3
    · intro kind w3 hk ⟨f3, g3, n3⟩ next3 o4
      have hE3 := XE_fQ f3 hE
      have ek : nI kind + 1 = nI (kind + 1) := n_add _ 1
      refine r_X0_truce_27 ?_
      rw [XE_b hE3]
      refine ⟨XE_s hE3, hE3.2.1.1.1, XE_bs hE3, hE3.2.2.1.1.1, XE_ks hE3, x_size hE3 (r_X0_truce_40 ⟨fun z => by rw [n_le (by omega) (by omega)] at z; omega, fun _ => ?_⟩)⟩
      refine upTo (bN B) (fun p (w4 : xw) => xfQ w w4 ∧ XG B s 345 w4 ∧ ∀ j, j < bN B * (bK B * side + kind) + p → trI B s j = false) (fun p w4 => T_X0_truce Q 46 [some (.ref 256), some (.int k), some (.int (nI side)), some (.int (nI kind)), some (.int (nI p))] [] w4) ?_ ?_ 0 w3 (by omega) ⟨f3, g3, n3⟩
      · intro w4 ⟨f4, g4, n4⟩
        have hE4 := XE_fQ f4 hE
        refine r_X0_truce_46 ⟨XE_s hE4, x_placeMany hE4 (r_X0_truce_52 ⟨fun _ => ?_, fun z => absurd (Int32.le_refl _) z⟩)⟩
        rw [ek]
        refine next3 w4 ⟨f4, g4, ?_⟩
        rw [← Nat.add_assoc, Nat.mul_add (bN B), Nat.mul_one]; exact n4
      · intro p w4 hp ⟨f4, g4, n4⟩ next4
        have hA4 := XA_fQ f4 hA g4
        have ep : nI p + 1 = nI (p + 1) := n_add _ 1
        have ti := trI_at (B := B) (s := s) (side := side) hp hk
        refine r_X0_truce_46 ⟨XE_s hA4.1, x_placeMany hA4.1 (r_X0_truce_52 ⟨fun z => by rw [n_le (by omega) (by omega)] at z; omega, fun _ => ⟨XE_s hA4.1, x_isBreaking hB1 hA4 hg hs hk hp (fun w5 f5 g5 => r_X0_truce_63 ⟨fun c5 => ?_, fun c5 => ?_⟩)⟩⟩)⟩
        · rw [ep]
          refine next4 w5 ⟨xfQ_trans f4 f5, g5, fun j hj => ?_⟩
          by_cases e : j = bN B * (bK B * side + kind) + p
          · rw [e, ti]; exact bI_e0 c5
          · exact n4 j (by omega)
        · have c6 := bI_n0 c5
          have q := q w5 (xfQ_trans f4 f5) g5
          rw [fstP_some (tr_lt hp hk hs) (by rw [ti]; exact c6) n4] at q
          dsimp only at q
          rw [div_of hp, mod_of hp, mod_of hk, div_of hk] at q
          refine ⟨fun c7 => ⟨fun c8 => ⟨fun c9 => ⟨trivial, ?_⟩, fun c9 => ⟨trivial, ?_⟩⟩, fun c8 => ⟨trivial, ?_⟩⟩, fun c7 => ⟨trivial, ?_⟩⟩
          · rw [if_neg (show ¬ k = -nI 1 from c7), if_neg (show ¬ k = nI 0 from c8), if_neg (show ¬ k = nI 1 from c9)] at q; exact q
          · rw [if_neg (show ¬ k = -nI 1 from c7), if_neg (show ¬ k = nI 0 from c8), if_pos (show k = nI 1 from Decidable.not_not.mp c9)] at q; exact q
          · rw [if_neg (show ¬ k = -nI 1 from c7), if_pos (show k = nI 0 from Decidable.not_not.mp c8)] at q; exact q
          · rw [if_pos (show k = -nI 1 from Decidable.not_not.mp c7)] at q; exact q
end
