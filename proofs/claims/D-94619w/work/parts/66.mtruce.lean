/-! truces, BorderStonesModel -/
noncomputable def trF (B : Bd) (s : GS) (side kind p : Nat) : Bool := decide (gS s p = 0) && decide (0 < (newG B (upN (gS s) p (2 + 2 * kind + side)) (gL s) side (partsG B (gS s) side)).length)
noncomputable def trI (B : Bd) (s : GS) (i : Nat) : Bool := trF B s (i / bN B / bK B) (i / bN B % bK B) (i % bN B)
noncomputable def truR (B : Bd) (s : GS) (k : Int32) : Int32 := match fstP (trI B s) (bN B * (bK B * 2)) with
  | none => if k = -nI 1 then nI 1 else -nI 1
  | some i => if k = -nI 1 then nI 0 else if k = nI 0 then nI (i / bN B / bK B) else if k = nI 1 then nI (i / bN B % bK B) else nI (i % bN B)
theorem trI_at {B : Bd} {s : GS} {side kind p : Nat} (hp : p < bN B) (hk : kind < bK B) : trI B s (bN B * (bK B * side + kind) + p) = trF B s side kind p := by
  unfold trI; rw [mod_of hp, div_of hp, mod_of hk, div_of hk]
theorem tr_lt {N K side kind p : Nat} (hp : p < N) (hk : kind < K) (hs : side < 2) : N * (K * side + kind) + p < N * (K * 2) := pl_lt hp (pl_lt hk hs)
def truOk (k : Int32) : Prop := -1 ≤ k.toInt ∧ k.toInt ≤ 2
theorem s_truce {Q : Option Value → mw → Prop} {M : mw} {B : Bd} {s : GS} (hB : bOk B ∨ bN B = 0) (hK : bK B ≤ 5) (hM : MB B M) (hG : MG s M) (hg : gOk B s) (k : Int32)
    (q0 : ¬ (bN B ≠ 0 ∧ truOk k) → Q (some (.int (-nI 1))) M) (q1 : bN B ≠ 0 → truOk k → ∀ M', frG M M' → MG s M' → Q (some (.int (truR B s k))) M') : V_truce [.ref 0, .int k] M Q := by
  have hN : bN B ≤ 36 := bN36 hB
  have eN : (nI (bN B) = (0 : Int32)) ↔ bN B = 0 := n_eq (b := 0) (by omega) (by omega)
  refine e_truce (r_truce_0 (s_places hM (r_truce_4 ?_)))
  rw [eN]
  refine ⟨fun c => ⟨trivial, q0 (fun z => z.1 c)⟩, fun c => ?_⟩
  have hB : bOk B := hB.elim id (fun h => by exfalso; exact absurd h c)
  have z1 : (-1 : Int32).toInt = -1 := by decide
  have z2 : (2 : Int32).toInt = 2 := by decide
  show V_isIn [.long k.toInt64, .long (-1 : Int32).toInt64, .long (2 : Int32).toInt64] M _
  refine s_isIn32 _ _ _ ?_
  rw [z1, z2]
  refine r_truce_18 ⟨fun c1 => ?_, fun c1 => ⟨trivial, q0 (fun z => ?_)⟩⟩
  rotate_left
  · have := bI_nn0 c1
    rw [decide_eq_false_iff_not] at this; exact this z.2
  have c2 := bI_n0 c1
  rw [decide_eq_true_eq] at c2
  have q := q1 c c2
  unfold truR at q
  have h16 := hg.2.2.2.2.2.1
  have h12 := s12 hK hg.1
  refine upTo 2 (fun side (M2 : mw) => frG M M2 ∧ MG s M2 ∧ ∀ j, j < bN B * (bK B * side) → trI B s j = false) (fun side M2 => ∀ {o3 o4 : Option Value}, T_truce Q 25 [some (.ref 0), some (.int k), some (.int (nI side)), o3, o4] [] M2) ?_ ?_ 0 M (by omega) ⟨frG_refl M, hG, fun j hj => by simp at hj⟩
  · intro M2 ⟨f2, g2, n2⟩ o3 o4
    have q := q M2 f2 g2
    rw [fstP_none n2] at q
    dsimp only at q
    refine r_truce_25 ⟨fun _ => ⟨fun c3 => ⟨trivial, ?_⟩, fun c3 => ⟨trivial, ?_⟩⟩, fun c3 => absurd (by decide) c3⟩
    · rw [if_neg (show ¬ k = -nI 1 from c3)] at q; exact q
    · rw [if_pos (show k = -nI 1 from Decidable.not_not.mp c3)] at q; exact q
  · intro side M2 hs ⟨f2, g2, n2⟩ next o3 o4
    have e2 : ((2 : Int32) ≤ nI side) ↔ 2 ≤ side := n_le (a := 2) (by omega) (by omega)
    refine r_truce_25 ?_
    rw [e2]
    refine ⟨fun z => by omega, fun _ => ?_⟩
    refine upTo (bK B) (fun kind (M3 : mw) => frG M M3 ∧ MG s M3 ∧ ∀ j, j < bN B * (bK B * side + kind) → trI B s j = false) (fun kind M3 => ∀ {o4 : Option Value}, T_truce Q 32 [some (.ref 0), some (.int k), some (.int (nI side)), some (.int (nI kind)), o4] [] M3) ?_ ?_ 0 M2 (by omega) ⟨f2, g2, n2⟩
    · intro M3 ⟨f3, g3, n3⟩ o4
      refine r_truce_32 (s_kinds (MB_frG f3 hM) (r_truce_37 ?_))
      (try simp +decide (disch := omega) only [n_lit2, n_add, n_mul, n_tn, n_inT, n_ltT, n_ltF, n_leT, n_leF, n_eqT, n_eqF, n_eqm, n_meq, n_div, n_rem, nb_0, nb_1, nr_b, true_and, and_true, eq_self, Decidable.not_not, not_false_eq_true, not_true_eq_false, false_implies, true_implies, implies_true, Option.toList_some, Option.toList_none, List.cons_append, List.nil_append]); (try simp (disch := omega) only [lc_eq, lc_le, lc_lt, lc_ge, lc_gt, mb_t1, mb_t0, bI_0, bI_1, n_in, n_lt, n_le, n_eq, Bool.not_eq_false, Bool.not_eq_true, Decidable.not_not, true_and])
      exact next M3 ⟨f3, g3, fun j hj => n3 j (by rw [Nat.mul_add, Nat.mul_one] at hj; exact hj)⟩
    · intro kind M3 hk ⟨f3, g3, n3⟩ next2 o4
      refine r_truce_32 (s_kinds (MB_frG f3 hM) (r_truce_37 ?_))
      (try simp +decide (disch := omega) only [n_lit2, n_add, n_mul, n_tn, n_inT, n_ltT, n_ltF, n_leT, n_leF, n_eqT, n_eqF, n_eqm, n_meq, n_div, n_rem, nb_0, nb_1, nr_b, true_and, and_true, eq_self, Decidable.not_not, not_false_eq_true, not_true_eq_false, false_implies, true_implies, implies_true, Option.toList_some, Option.toList_none, List.cons_append, List.nil_append]); (try simp (disch := omega) only [lc_eq, lc_le, lc_lt, lc_ge, lc_gt, mb_t1, mb_t0, bI_0, bI_1, n_in, n_lt, n_le, n_eq, Bool.not_eq_false, Bool.not_eq_true, Decidable.not_not, true_and])
      refine upTo (bN B) (fun p (M4 : mw) => frG M M4 ∧ MG s M4 ∧ ∀ j, j < bN B * (bK B * side + kind) + p → trI B s j = false) (fun p M4 => T_truce Q 43 [some (.ref 0), some (.int k), some (.int (nI side)), some (.int (nI kind)), some (.int (nI p))] [] M4) ?_ ?_ 0 M3 (by omega) ⟨f3, g3, n3⟩
      · intro M4 ⟨f4, g4, n4⟩
        refine r_truce_43 (s_places (MB_frG f4 hM) (r_truce_49 ?_))
        (try simp +decide (disch := omega) only [n_lit2, n_add, n_mul, n_tn, n_inT, n_ltT, n_ltF, n_leT, n_leF, n_eqT, n_eqF, n_eqm, n_meq, n_div, n_rem, nb_0, nb_1, nr_b, true_and, and_true, eq_self, Decidable.not_not, not_false_eq_true, not_true_eq_false, false_implies, true_implies, implies_true, Option.toList_some, Option.toList_none, List.cons_append, List.nil_append]); (try simp (disch := omega) only [lc_eq, lc_le, lc_lt, lc_ge, lc_gt, mb_t1, mb_t0, bI_0, bI_1, n_in, n_lt, n_le, n_eq, Bool.not_eq_false, Bool.not_eq_true, Decidable.not_not, true_and])
        exact next2 M4 ⟨f4, g4, fun j hj => n4 j (by rw [← Nat.add_assoc, Nat.mul_add, Nat.mul_one] at hj; exact hj)⟩
      · intro p M4 hp ⟨f4, g4, n4⟩ next3
        have hM4 := MB_frG f4 hM
        have nx : trF B s side kind p = false → ∀ M5, frG M M5 → MG s M5 → T_truce Q 43 [some (.ref 0), some (.int k), some (.int (nI side)), some (.int (nI kind)), some (.int (nI (p + 1)))] [] M5 := by
          intro hf M5 f5 g5
          refine next3 M5 ⟨f5, g5, fun j hj => ?_⟩
          by_cases e : j = bN B * (bK B * side + kind) + p
          · rw [e, trI_at hp hk]; exact hf
          · exact n4 j (by omega)
        refine r_truce_43 (s_places hM4 (r_truce_49 ?_))
        (try simp +decide (disch := omega) only [n_lit2, n_add, n_mul, n_tn, n_inT, n_ltT, n_ltF, n_leT, n_leF, n_eqT, n_eqF, n_eqm, n_meq, n_div, n_rem, nb_0, nb_1, nr_b, true_and, and_true, eq_self, Decidable.not_not, not_false_eq_true, not_true_eq_false, false_implies, true_implies, implies_true, Option.toList_some, Option.toList_none, List.cons_append, List.nil_append]); (try simp (disch := omega) only [lc_eq, lc_le, lc_lt, lc_ge, lc_gt, mb_t1, mb_t0, bI_0, bI_1, n_in, n_lt, n_le, n_eq, Bool.not_eq_false, Bool.not_eq_true, Decidable.not_not, true_and])
        refine s_isFree (MG_MS g4) (fun p => by have := h12 p; omega) (by omega) (r_truce_58 ⟨fun c3 => ?_, fun c3 => ?_⟩)
        · have c4 := bI_n0 c3
          rw [decide_eq_true_eq] at c4
          refine kk_keeps (l := 4) (by omega) h16 g4 (fun M5 f5 k5 _ => r_truce_69 ⟨(n_in (a := 109) (by omega)).mpr (by omega), ?_⟩)
          have e109 : Int32.toNatClampNeg 109 = 109 := by decide
          rw [e109]
          have g5 := MG_upO [] (MG_fr f5 (by omega) g4) (lsL_nil _)
          have fu : fr 56 56 M5 (mM_up M5 56 109 0) := fr_up M5 _ _ (by omega)
          have hM5 := MB_fr fu (by omega) (MB_fr f5 (by omega) hM4)
          refine s_keepsParts hB hM5 (MG_MS g5) hg.1 hs (fun M6 f6 n6 l6 => r_truce_82 ?_)
          have g6 := MG_fr f6 (by omega) g5
          have hM6 := MB_fr f6 (by omega) hM5
          have ev : ((2 : Int32) + 2 * nI kind) + nI side = nI (2 + 2 * kind + side) := by
            rw [show (2 : Int32) * nI kind = nI (2 * kind) from n_mul 2 kind, show (2 : Int32) + nI (2 * kind) = nI (2 + 2 * kind) from n_add 2 _, n_add]
          rw [n_tn (by omega), ev]
          refine ⟨(n_in (by omega)).mpr (by omega), ?_⟩
          have g7 := MG_upS (p := p) (2 + 2 * kind + side) g6 (by omega)
          have fv : fr 56 56 M6 (mM_up M6 56 p (nI (2 + 2 * kind + side))) := fr_up M6 _ _ (by omega)
          refine s_newParts (l := gL s) hB (MB_fr fv (by omega) hM6) (MG_MS g7) (sOk_up hg.1 hk hs) g7.2.1 hg.2.2.1 hs (W := partsG B (gS s) side) (partsG_len B hB _ _) (by rw [(fv 64 (by omega)).1]; exact n6) (by rw [(fv 63 (by omega)).2]; exact l6) (fun M7 f7 n7 l7 => r_truce_101 ?_)
          have k7 := MK_fr f7 (by omega) (MK_fr fv (by omega) (MK_fr f6 (by omega) (MK_fr fu (by omega) k5)))
          refine kk_back (l := 4) (by omega) h16 k7 (fun M8 f8 g8 => r_truce_106 ?_)
          have f9 : frG M M8 := frG_then (frG_then (frG_then (frG_then (frG_then (frG_then f4 f5 (by omega)) fu (by omega)) f6 (by omega)) fv (by omega)) f7 (by omega)) f8 (by omega)
          have n8 := n7
          rw [← (f8 66 (by omega)).1] at n8
          have hl := newG_len hB (upN (gS s) p (2 + 2 * kind + side)) (gL s) side (partsG B (gS s) side)
          have e0 : (nI (newG B (upN (gS s) p (2 + 2 * kind + side)) (gL s) side (partsG B (gS s) side)).length ≤ (0 : Int32)) ↔ (newG B (upN (gS s) p (2 + 2 * kind + side)) (gL s) side (partsG B (gS s) side)).length ≤ 0 := n_le (b := 0) (by omega) (by omega)
          have e1 : nI p + 1 = nI (p + 1) := n_add p 1
          rw [n8, e0, e1]
          refine ⟨fun c5 => nx ?_ M8 f9 g8, fun c5 => ?_⟩
          · unfold trF; rw [decide_eq_false (show ¬ 0 < (newG B (upN (gS s) p (2 + 2 * kind + side)) (gL s) side (partsG B (gS s) side)).length by omega), Bool.and_false]
          · have q := q M8 f9 g8
            have ht : trI B s (bN B * (bK B * side + kind) + p) = true := by
              rw [trI_at hp hk]; unfold trF; rw [decide_eq_true c4, decide_eq_true (by omega)]; rfl
            rw [fstP_some (tr_lt hp hk hs) ht n4] at q
            dsimp only at q
            rw [mod_of hp, div_of hp, mod_of hk, div_of hk] at q
            refine ⟨fun c6 => ⟨fun c7 => ⟨fun c8 => ⟨trivial, ?_⟩, fun c8 => ⟨trivial, ?_⟩⟩, fun c7 => ⟨trivial, ?_⟩⟩, fun c6 => ⟨trivial, ?_⟩⟩
            · rw [if_neg (show ¬ k = -nI 1 from c6), if_neg (show ¬ k = nI 0 from c7), if_neg (show ¬ k = nI 1 from c8)] at q; exact q
            · rw [if_neg (show ¬ k = -nI 1 from c6), if_neg (show ¬ k = nI 0 from c7), if_pos (show k = nI 1 from Decidable.not_not.mp c8)] at q; exact q
            · rw [if_neg (show ¬ k = -nI 1 from c6), if_pos (show k = nI 0 from Decidable.not_not.mp c7)] at q; exact q
            · rw [if_pos (show k = -nI 1 from Decidable.not_not.mp c6)] at q; exact q
        · have c4 := bI_nn0 c3
          rw [decide_eq_false_iff_not] at c4
          have e1 : nI p + 1 = nI (p + 1) := n_add p 1
          rw [e1]
          exact nx (by unfold trF; rw [decide_eq_false c4]; rfl) M4 f4 g4
