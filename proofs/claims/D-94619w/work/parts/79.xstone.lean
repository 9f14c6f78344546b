/-! X: what a stone does -/
section
variable {Q : Option Value → xw → Prop} {w : xw} {B : Bd} {s t : GS} {a b : Nat} {H : List GS}
theorem x_canSet (hN : bN B ≤ 36) (hK : bK B ≤ 5) (hE : XE B b w) (hP : XP a w) (hG : XG B t a w) (k p : Int32)
    (q0 : ¬ (vld k (bK B) ∧ vld p (bN B) ∧ gS t p.toNatClampNeg = 0) → Q (some (.int (nI 0))) w) (q1 : ∀ k' p', k = nI k' → k' < bK B → p = nI p' → p' < bN B → gS t p' = 0 → Q (some (.int (nI 1))) w) : V_X0_canSet [.ref 256, .ref a, .int k, .int p] w Q := by
  refine e_X0_canSet (r_X0_canSet_0 ⟨XE_s hE, x_isKind hK hE k (r_X0_canSet_5 ⟨fun c => ⟨nr_0, q0 ?_⟩, fun c => ?_⟩)⟩)
  · have c := bI_e0 c
    rw [decide_eq_false_iff_not] at c
    exact fun z => c z.1
  have c := bI_n0 c
  rw [decide_eq_true_eq] at c
  obtain ⟨k', hk, rfl⟩ := vld_ex c
  refine ⟨XE_s hE, x_isPlace hN hE p (r_X0_canSet_13 ⟨fun c2 => ⟨nr_0, q0 ?_⟩, fun c2 => ?_⟩)⟩
  · have c2 := bI_e0 c2
    rw [decide_eq_false_iff_not] at c2
    exact fun z => c2 z.2.1
  have c2 := bI_n0 c2
  rw [decide_eq_true_eq] at c2
  obtain ⟨p', hp, rfl⟩ := vld_ex c2
  refine ⟨XP_s hP, x_has hP hG (by omega) (r_X0_canSet_21 ⟨fun c3 => ⟨nr_0, q0 ?_⟩, fun c3 => ⟨nr_1, q1 k' p' rfl hk rfl hp ?_⟩⟩)⟩
  · have c3 := bI_n0 c3
    rw [decide_eq_true_eq] at c3
    intro z
    have := z.2.2
    rw [n_tn (by omega)] at this
    exact c3 this
  · have c3 := bI_nn0 c3
    rw [decide_eq_false_iff_not, Decidable.not_not] at c3; exact c3
theorem x_set (hB : bOk B ∨ bN B = 0) (hK : bK B ≤ 5) (hA : XA B b s w) (hg : gOk B s) (hH : XK B H w) (x y : Int32)
    (q0 : setC B s x y none → Q (some (.int (-nI 1))) w) (q1 : ∀ k pl, setC B s x y (some (k, pl)) → ∀ w', xfS w w' → XA B b (goG B s k pl) w' → XK B ((s :: H).take 40) w' → Q (some (.int (nI (goC B s k pl)))) w') : V_X0_set [.ref 256, .int x, .int y] w Q := by
  have hN : bN B ≤ 36 := bN36 hB
  obtain ⟨hE, hO, hG⟩ := id hA
  have hP := XO_n hO
  have hd : gD s ≤ 200 := hg.2.2.2.2.1
  have h16 := hg.2.2.2.2.2.1
  have r0 := hG.1
  have nc : gD s = 200 → setC B s x y none := fun z => by
    by_cases e : y = -nI 1
    · exact Or.inl ⟨e, Or.inl z⟩
    · exact Or.inr ⟨e, fun h => by have := h.2.2.2; omega⟩
  have go : ∀ k pl, setC B s x y (some (k, pl)) → bN B ≠ 0 → y = plI pl → (∀ p, pl = some p → p < bN B ∧ k < bK B ∧ x = nI k ∧ gS s p = 0) → gD s < 200 → V_X0_keeps [.ref 256] w (fun v w1 => T_X0_set Q 44 [some (.ref 256), some (.int x), some (.int y)] (v.toList ++ []) w1) := by
    intro k pl hs hn ey hp h200
    subst ey
    have hB1 : bOk B := hB.elim id (fun h => absurd h hn)
    refine x_keeps hA h16 hH (fun w1 f1 a1 h1 => r_X0_set_44 ?_)
    obtain ⟨hE1, hO1, hG1⟩ := a1
    rw [XO_7 hO1]
    have go2 := goOk_all hB1 s k pl hg h200 (fun p h => ⟨(hp p h).1, (hp p h).2.1⟩)
    refine ⟨XE_s hE1, by omega, XP_s (XO_n hO1), x_goes hB hE1 (XO_n hO1) hG1 hg pl hp (fun w2 f2 g2 => r_X0_set_53 ?_)⟩
    have hE2 := XE_fr f2 (by omega) hE1
    have hO2 := XO_fr f2 hO1
    rw [XO_7 hO2]
    refine ⟨XE_s hE2, by omega, XP_s (XO_n hO2), x_owedPlaces (XO_n hO2) g2 go2.2.2.2.2.2.1 (r_X0_set_60 (x_bitCount _ (r_X0_set_63 ⟨trivial, ?_⟩)))⟩
    rw [owed_cnt go2]
    exact q1 k pl hs w2 (xfS_trans f1 (xfS_of f2 (by omega))) ⟨hE2, hO2, g2⟩ (XK_fr f2 (by omega) h1)
  refine e_X0_set (r_X0_set_0 ?_)
  (try simp +decide (disch := omega) only [n_lit2, n_add, n_mul, n_tn, n_inT, n_ltT, n_ltF, n_leT, n_leF, n_eqT, n_eqF, n_eqm, n_meq, n_div, n_rem, nb_0, nb_1, nr_b, true_and, and_true, eq_self, Decidable.not_not, not_false_eq_true, not_true_eq_false, false_implies, true_implies, implies_true, Option.toList_some, Option.toList_none, List.cons_append, List.nil_append, xS_uI, xS_uL, xR_uI, xR_uL, xL_uI, xI_uL, xN_uI, xN_uL, xB_uI, xB_uL, add_nz, ge_256, and_self, XE_s hE, XO_7 hO, XP_s hP, r0]); (try simp (disch := omega) only [lc_eq, lc_le, lc_lt, lc_ge, lc_gt, mb_t1, mb_t0, bI_0, bI_1, n_in, n_lt, n_le, n_eq, Bool.not_eq_false, Bool.not_eq_true, Decidable.not_not, true_and, XE_s hE, XO_7 hO, XP_s hP, r0])
  refine ⟨fun c => q0 (nc c), fun c => x_placeMany hE (r_X0_set_17 ?_)⟩
  (try simp +decide (disch := omega) only [n_lit2, n_add, n_mul, n_tn, n_inT, n_ltT, n_ltF, n_leT, n_leF, n_eqT, n_eqF, n_eqm, n_meq, n_div, n_rem, nb_0, nb_1, nr_b, true_and, and_true, eq_self, Decidable.not_not, not_false_eq_true, not_true_eq_false, false_implies, true_implies, implies_true, Option.toList_some, Option.toList_none, List.cons_append, List.nil_append, xS_uI, xS_uL, xR_uI, xR_uL, xL_uI, xI_uL, xN_uI, xN_uL, xB_uI, xB_uL, add_nz, ge_256, and_self, XE_s hE, XO_7 hO, XP_s hP]); (try simp (disch := omega) only [lc_eq, lc_le, lc_lt, lc_ge, lc_gt, mb_t1, mb_t0, bI_0, bI_1, n_in, n_lt, n_le, n_eq, Bool.not_eq_false, Bool.not_eq_true, Decidable.not_not, true_and, XE_s hE, XO_7 hO, XP_s hP])
  refine ⟨fun c2 => q0 ?_, fun c2 => ⟨fun c3 => ?_, fun c3 => ?_⟩⟩
  · by_cases e : y = -nI 1
    · exact Or.inl ⟨e, Or.inr c2⟩
    · exact Or.inr ⟨e, fun h => by have := h.2.1; unfold vld at this; omega⟩
  · exact go 0 none ⟨c3, by omega, c2, rfl⟩ c2 c3 (fun p h => by cases h) (by omega)
  · refine x_canSet hN hK hE hP hG x y (fun h => r_X0_set_35 ⟨fun c4 => absurd rfl c4, fun _ => ⟨trivial, q0 (Or.inr ⟨c3, fun z => h ⟨z.1, z.2.1, z.2.2.1⟩⟩)⟩⟩) (fun k p ek hk ep hp hf => r_X0_set_35 ⟨fun _ => ⟨XE_s hE, go k (some p) ⟨ek, ep, hk, hp, hf, by omega⟩ c2 ep (fun p' h => by cases h; exact ⟨hp, hk, ek, hf⟩) (by omega)⟩, fun c4 => absurd (by decide) c4⟩)
theorem hitN_st {O : List Int64} {p k : Nat} : smP (fun k => if mb (O.getD k 0) p = true then 1 else 0) (k + 1) = smP (fun k => if mb (O.getD k 0) p = true then 1 else 0) k + (if mb (O.getD k 0) p = true then 1 else 0) := rfl
set_option maxHeartbeats 1000000 in
theorem x_threat (hB : bOk B ∨ bN B = 0) (hK : bK B ≤ 5) (hA : XA B b s w) (hg : gOk B s) (x y c : Int32)
    (q0 : ¬ (canP B s x y ∧ vld c 3) → Q (some (.int (-nI 1))) w) (q1 : ∀ k p, k < bK B → x = nI k → p < bN B → y = nI p → gS s p = 0 → gD s < 200 → vld c 3 → ∀ w', xfQ w w' → XG B s 345 w' → Q (some (.int (threatR B s k p c))) w') : V_X0_threat [.ref 256, .int x, .int y, .int c] w Q := by
  have hN : bN B ≤ 36 := bN36 hB
  obtain ⟨hE, hO, hG⟩ := id hA
  have hP := XO_n hO
  have hT := XO_t hO
  have hd : gD s ≤ 200 := hg.2.2.2.2.1
  have h16 := hg.2.2.2.2.2.1
  have r0 := hG.1
  refine e_X0_threat (r_X0_threat_0 ?_)
  (try simp +decide (disch := omega) only [n_lit2, n_add, n_mul, n_tn, n_inT, n_ltT, n_ltF, n_leT, n_leF, n_eqT, n_eqF, n_eqm, n_meq, n_div, n_rem, nb_0, nb_1, nr_b, true_and, and_true, eq_self, Decidable.not_not, not_false_eq_true, not_true_eq_false, false_implies, true_implies, implies_true, Option.toList_some, Option.toList_none, List.cons_append, List.nil_append, xS_uI, xS_uL, xR_uI, xR_uL, xL_uI, xI_uL, xN_uI, xN_uL, xB_uI, xB_uL, add_nz, ge_256, and_self, XE_s hE, XO_7 hO, XP_s hP, r0]); (try simp (disch := omega) only [lc_eq, lc_le, lc_lt, lc_ge, lc_gt, mb_t1, mb_t0, bI_0, bI_1, n_in, n_lt, n_le, n_eq, Bool.not_eq_false, Bool.not_eq_true, Decidable.not_not, true_and, XE_s hE, XO_7 hO, XP_s hP, r0])
  refine ⟨fun c0 => q0 (fun z => by have := z.1.2.2.2; omega), fun c0 => ?_⟩
  refine x_canSet hN hK hE hP hG x y (fun h => r_X0_threat_23 ⟨fun _ => ⟨trivial, q0 (fun z => h ⟨z.1.1, z.1.2.1, z.1.2.2.1⟩)⟩, fun z => absurd rfl z⟩) (fun k p ek hk ep hp hf => r_X0_threat_23 ⟨fun z => absurd z (by decide), fun _ => x_is _ _ _ (r_X0_threat_32 ⟨fun c1 => ?_, fun c1 => ⟨trivial, q0 (fun z => ?_)⟩⟩)⟩)
  rotate_left
  · have c1 := bI_nn0 c1
    rw [decide_eq_false_iff_not] at c1
    have := z.2
    unfold vld at this
    exact c1 ⟨this.1, by show c.toInt ≤ 2; omega⟩
  have c1 := bI_n0 c1
  rw [decide_eq_true_eq] at c1
  have hc : vld c 3 := ⟨c1.1, by have : c.toInt ≤ 2 := c1.2; omega⟩
  subst ek ep
  have hB1 : bOk B := hB.elim id (fun h => by exfalso; omega)
  have q := q1 k p hk rfl hp rfl hf (by omega) hc
  clear q0 q1
  have hgo := goOk_all hB1 s k (some p) hg (by omega) (fun p' h => by cases h; exact ⟨hp, hk⟩)
  unfold threatR at q
  refine upTo (gO s).length (fun _ (_ : Unit) => True)
    (fun j _ => T_X0_threat Q 43 [some (.ref 256), some (.int (nI k)), some (.int (nI p)), some (.int c), some (.int (nI (smP (fun k => if mb ((gO s).getD k 0) p = true then 1 else 0) j))), some (.int (nI j))] [] w) ?_ ?_ 0 () (by omega) trivial
  · intro _ _
    have r1 := hG.2.1
    refine r_X0_threat_43 ?_
    (try simp +decide (disch := omega) only [n_lit2, n_add, n_mul, n_tn, n_inT, n_ltT, n_ltF, n_leT, n_leF, n_eqT, n_eqF, n_eqm, n_meq, n_div, n_rem, nb_0, nb_1, nr_b, true_and, and_true, eq_self, Decidable.not_not, not_false_eq_true, not_true_eq_false, false_implies, true_implies, implies_true, Option.toList_some, Option.toList_none, List.cons_append, List.nil_append, xS_uI, xS_uL, xR_uI, xR_uL, xL_uI, xI_uL, xN_uI, xN_uL, xB_uI, xB_uL, add_nz, ge_256, and_self, XE_s hE, XO_7 hO, XP_s hP, r1, XO_11 hO, XP_s hT]); (try simp (disch := omega) only [lc_eq, lc_le, lc_lt, lc_ge, lc_gt, mb_t1, mb_t0, bI_0, bI_1, n_in, n_lt, n_le, n_eq, Bool.not_eq_false, Bool.not_eq_true, Decidable.not_not, true_and, XE_s hE, XO_7 hO, XP_s hP, r1, XO_11 hO, XP_s hT])
    refine ⟨fun c2 => ?_, fun c2 => ?_⟩
    · refine x_copy hT hP (by omega) hG h16 (fun w1 f1 g1 => r_X0_threat_109 ?_)
      have hE1 := XE_fr f1 (by omega) hE
      have hO1 := XO_fr f1 hO
      rw [XO_11 hO1, show nI p = plI (some p) from rfl]
      refine ⟨XE_s hE1, by omega, XP_s (XO_t hO1), x_goes hB hE1 (XO_t hO1) g1 hg (some p) (fun p' h => by cases h; exact ⟨hp, hk, rfl, hf⟩) (fun w2 f2 g2 => r_X0_threat_118 ?_)⟩
      have hE2 := XE_fr f2 (by omega) hE1
      have hO2 := XO_fr f2 hO1
      have fq : xfQ w w2 := xfQ_then (xfQ_of f1 (by omega)) f2 (by omega)
      have q := q w2 fq (XG_fr f2 (by omega) (XG_fr f1 (by omega) hG))
      rw [XO_11 hO2, g2.2.1]
      refine ⟨fun c3 => ⟨XE_s hE2, by omega, XP_s (XO_t hO2), trivial, ?_⟩, fun c3 => ⟨XE_s hE2, by omega, XP_s (XO_t hO2), x_owedPlaces (XO_t hO2) g2 hgo.2.2.2.2.2.1 (r_X0_threat_129 (x_bitCount _ (r_X0_threat_132 ⟨trivial, ?_⟩)))⟩⟩
      · have c4 : c = nI 1 := by
          have c0' : c.toInt ≠ 0 := fun z => c3 (by rw [← Int32.toInt_inj, z]; rfl)
          have c2' : c.toInt ≠ 2 := fun z => c2 (by rw [← Int32.toInt_inj, z]; rfl)
          unfold vld at hc
          rw [← Int32.toInt_inj, n_T (by omega)]; omega
        rw [if_neg (show ¬ c = nI 0 from c3), if_pos c4] at q; exact q
      · rw [Decidable.not_not] at c3
        rw [if_pos (show c = nI 0 from c3)] at q
        rw [owed_cnt hgo]; exact q
    · have q := q w (xfQ_refl w) hG
      rw [if_neg (by rw [c2]; decide), if_neg (by rw [c2]; decide)] at q
      exact q
  · intro j _ hj _ next
    have r1 := hG.2.1
    have r2 := lsL_get hG.2.2.1 hj
    have nx := next () trivial
    rw [hitN_st] at nx
    refine r_X0_threat_43 ?_
    (try simp +decide (disch := omega) only [n_lit2, n_add, n_mul, n_tn, n_inT, n_ltT, n_ltF, n_leT, n_leF, n_eqT, n_eqF, n_eqm, n_meq, n_div, n_rem, nb_0, nb_1, nr_b, true_and, and_true, eq_self, Decidable.not_not, not_false_eq_true, not_true_eq_false, false_implies, true_implies, implies_true, Option.toList_some, Option.toList_none, List.cons_append, List.nil_append, xS_uI, xS_uL, xR_uI, xR_uL, xL_uI, xI_uL, xN_uI, xN_uL, xB_uI, xB_uL, add_nz, ge_256, and_self, XE_s hE, XO_7 hO, XP_s hP, XP_r2 hP, XP_r3 hP, XP_r7 hP, XP_r8 hP, XP_r9 hP, XP_r11 hP, XP_r12 hP, XP_r13 hP, XP_s1 hP, XP_s2 hP, XP_s3 hP, XP_s4 hP, XP_s5 hP, XP_s6 hP, XP_s7 hP, r1, r2]); (try simp (disch := omega) only [lc_eq, lc_le, lc_lt, lc_ge, lc_gt, mb_t1, mb_t0, bI_0, bI_1, n_in, n_lt, n_le, n_eq, Bool.not_eq_false, Bool.not_eq_true, Decidable.not_not, true_and, XE_s hE, XO_7 hO, XP_s hP, XP_r2 hP, XP_r3 hP, XP_r7 hP, XP_r8 hP, XP_r9 hP, XP_r11 hP, XP_r12 hP, XP_r13 hP, XP_s1 hP, XP_s2 hP, XP_s3 hP, XP_s4 hP, XP_s5 hP, XP_s6 hP, XP_s7 hP, r1, r2])
    refine ⟨fun c2 => ?_, fun c2 => ?_⟩
    · rw [if_neg (by rw [c2]; simp)] at nx; exact nx
    · rw [if_pos c2] at nx; exact nx
theorem x_fork (hB : bOk B ∨ bN B = 0) (hK : bK B ≤ 5) (hA : XA B b s w) (hg : gOk B s) (x : Int32)
    (q0 : ¬ (vld x (bK B) ∧ gD s < 200) → ∀ w', xfQ w w' → XG B s 345 w' → Q (some (.int (-nI 1))) w') (q1 : ∀ k, k < bK B → x = nI k → gD s < 200 → ∀ w', xfQ w w' → XG B s 345 w' → Q (some (.int (plI (fstP (forkF B s k) (bN B))))) w') : V_X0_fork [.ref 256, .int x] w Q := by
  have hN : bN B ≤ 36 := bN36 hB
  obtain ⟨hE, hO, hG⟩ := id hA
  have hd : gD s ≤ 200 := hg.2.2.2.2.1
  refine e_X0_fork (r_X0_fork_0 ⟨XE_s hE, x_isKind hK hE x (r_X0_fork_5 ⟨fun c => ?_, fun c => ⟨trivial, q0 (fun z => ?_) w (xfQ_refl w) hG⟩⟩)⟩)
  rotate_left
  · have c := bI_nn0 c
    rw [decide_eq_false_iff_not] at c
    exact c z.1
  have c := bI_n0 c
  rw [decide_eq_true_eq] at c
  obtain ⟨k, hk, rfl⟩ := vld_ex c
  by_cases h200 : gD s < 200
  · have q := q1 k hk rfl h200
    refine upTo (bN B) (fun p (w1 : xw) => xfQ w w1 ∧ XG B s 345 w1 ∧ ∀ u, u < p → forkF B s k u = false)
      (fun p w1 => T_X0_fork Q 12 [some (.ref 256), some (.int (nI k)), some (.int (nI p))] [] w1) ?_ ?_ 0 w (by omega) ⟨xfQ_refl w, hG, fun u hu => by omega⟩
    · intro w1 ⟨f1, g1, n1⟩
      have hE1 := XE_fQ f1 hE
      refine r_X0_fork_12 ⟨XE_s hE1, x_placeMany hE1 (r_X0_fork_17 ⟨fun _ => ⟨trivial, ?_⟩, fun z => absurd (Int32.le_refl _) z⟩)⟩
      have q := q w1 f1 g1
      rw [fstP_none n1] at q; exact q
    · intro p w1 hp ⟨f1, g1, n1⟩ next
      have hA1 := XA_fQ f1 hA g1
      have e1 : nI p + 1 = nI (p + 1) := n_add p 1
      refine r_X0_fork_12 ⟨XE_s hA1.1, x_placeMany hA1.1 (r_X0_fork_17 ⟨fun z => by rw [n_le (by omega) (by omega)] at z; omega, fun _ => ⟨XE_s hA1.1, ?_⟩⟩)⟩
      have z2 : (2 : Int32) = nI 2 := rfl
      refine x_threat hB hK hA1 hg (nI k) (nI p) 1 (fun hz => r_X0_fork_27 ⟨fun _ => ?_, fun z => absurd (by decide) z⟩) (fun k' p' hk' ek hp' ep hf _ _ w2 f2 g2 => r_X0_fork_27 ?_)
      · rw [e1]
        refine next w1 ⟨f1, g1, fun u hu => ?_⟩
        by_cases e : u = p
        · subst e
          unfold forkF
          have : ¬ gS s u = 0 := fun z => hz ⟨⟨c, vld_n (by omega) (by omega), by rw [n_tn (by omega)]; exact z, h200⟩, show vld (nI 1) 3 from vld_n (by omega) (by omega)⟩
          rw [decide_eq_false this]; rfl
        · exact n1 u (by omega)
      · have ek' : k' = k := ((n_eq (by omega) (by omega)).mp ek).symm
        have ep' : p' = p := ((n_eq (by omega) (by omega)).mp ep).symm
        subst ek' ep'
        have et : threatR B s k' p' 1 = nI (gO (goG B s k' (some p'))).length := by
          unfold threatR
          rw [if_neg (by decide), if_pos (show (1 : Int32) = nI 1 from rfl)]
        have hlen : (gO (goG B s k' (some p'))).length ≤ 16 := newG_len (hB.elim id (fun h => by exfalso; omega)) _ _ _ _
        rw [et, z2, n_lt (by omega) (by omega), e1]
        refine ⟨fun c5 => next w2 ⟨xfQ_trans f1 f2, g2, fun u hu => ?_⟩, fun c5 => ⟨trivial, ?_⟩⟩
        · by_cases e : u = p'
          · subst e
            unfold forkF
            rw [decide_eq_false (show ¬ 2 ≤ (gO (goG B s k' (some u))).length by omega), Bool.and_false]
          · exact n1 u (by omega)
        · have q := q w2 (xfQ_trans f1 f2) g2
          rw [fstP_some hp (by unfold forkF; rw [decide_eq_true hf, decide_eq_true (show 2 ≤ (gO (goG B s k' (some p'))).length by omega)]; rfl) n1] at q
          exact q
  · have q := q0 (fun z => h200 z.2)
    refine upTo (bN B) (fun p (w1 : xw) => xfQ w w1 ∧ XG B s 345 w1)
      (fun p w1 => T_X0_fork Q 12 [some (.ref 256), some (.int (nI k)), some (.int (nI p))] [] w1) ?_ ?_ 0 w (by omega) ⟨xfQ_refl w, hG⟩
    · intro w1 ⟨f1, g1⟩
      have hE1 := XE_fQ f1 hE
      exact r_X0_fork_12 ⟨XE_s hE1, x_placeMany hE1 (r_X0_fork_17 ⟨fun _ => ⟨trivial, q w1 f1 g1⟩, fun z => absurd (Int32.le_refl _) z⟩)⟩
    · intro p w1 hp ⟨f1, g1⟩ next
      have hA1 := XA_fQ f1 hA g1
      have e1 : nI p + 1 = nI (p + 1) := n_add p 1
      refine r_X0_fork_12 ⟨XE_s hA1.1, x_placeMany hA1.1 (r_X0_fork_17 ⟨fun z => by rw [n_le (by omega) (by omega)] at z; omega, fun _ => ⟨XE_s hA1.1, ?_⟩⟩)⟩
      refine x_threat hB hK hA1 hg (nI k) (nI p) 1 (fun hz => r_X0_fork_27 ⟨fun _ => ?_, fun z => absurd (by decide) z⟩) (fun k' p' hk' ek hp' ep hf h2 _ w2 f2 g2 => absurd h2 h200)
      rw [e1]
      exact next w1 ⟨f1, g1⟩
theorem x_line (hB : bOk B ∨ bN B = 0) (hA : XA B b s w) (hg : gOk B s) (x y : Int32)
    (q0 : ¬ (vld x (bN B) ∧ vld y (bN B)) → Q (some (.int (-nI 1))) w) (q1 : ∀ p u, p < bN B → x = nI p → u < bN B → y = nI u → Q (some (.int (lineR B s p u))) w) : V_X0_line [.ref 256, .int x, .int y] w Q := by
  have hN : bN B ≤ 36 := bN36 hB
  obtain ⟨hE, hO, hG⟩ := id hA
  have hP := XO_n hO
  have s0 := hG.2.2.2.1 0 (by omega)
  have s1 := hG.2.2.2.1 1 (by omega)
  refine e_X0_line (r_X0_line_0 ⟨XE_s hE, x_isPlace hN hE x (r_X0_line_5 ⟨fun c => ⟨trivial, q0 (fun z => ?_)⟩, fun c => ⟨XE_s hE, x_isPlace hN hE y (r_X0_line_13 ⟨fun c2 => ⟨trivial, q0 (fun z => ?_)⟩, fun c2 => ?_⟩)⟩⟩)⟩)
  · have c := bI_e0 c
    rw [decide_eq_false_iff_not] at c; exact c z.1
  · have c2 := bI_e0 c2
    rw [decide_eq_false_iff_not] at c2; exact c2 z.2
  have c := bI_n0 c
  rw [decide_eq_true_eq] at c
  obtain ⟨p, hp, rfl⟩ := vld_ex c
  have c2 := bI_n0 c2
  rw [decide_eq_true_eq] at c2
  obtain ⟨u, hu, rfl⟩ := vld_ex c2
  have q := q1 p u hp rfl hu rfl
  clear q0 q1
  have hB1 : bOk B := hB.elim id (fun h => by exfalso; omega)
  unfold lineR at q
  have sv : ∀ v : Nat, (if isOfG (gS s) v 0 = true then nI 0 else if isOfG (gS s) v 1 = true then nI 1 else -nI 1) = if gS s v = 0 then -nI 1 else nI (gS s v % 2) := fun v => by
    unfold isOfG
    by_cases z : gS s v = 0
    · simp [z]
    · have z1 : 0 < gS s v := by omega
      have z2 : gS s v % 2 = 0 ∨ gS s v % 2 = 1 := by omega
      rcases z2 with z2 | z2 <;> simp [z, z1, z2]
  rw [n_eq (by omega) (by omega), XO_7 hO, XP_r2 hP]
  refine ⟨fun c3 => ⟨XE_s hE, by omega, XP_s hP, by omega, x_sideOf (f := fun p => isOfG (gS s) p 0) (g := fun p => isOfG (gS s) p 1) (XP_s1 hP) (by omega) (by rw [s0, mb_stL _ _ (by omega)]; simp; omega) (by rw [s1, mb_stL _ _ (by omega)]; simp; omega) (r_X0_line_34 ?_)⟩, fun c3 => ⟨trivial, ?_⟩⟩
  rotate_left
  · rw [if_pos (Or.inl (Decidable.not_not.mp c3))] at q; exact q
  rw [sv p, XO_7 hO, XP_r2 hP]
  by_cases zp : gS s p = 0
  · rw [if_pos zp]
    rw [if_pos (Or.inr (Or.inl zp))] at q
    exact ⟨fun _ => ⟨trivial, q⟩, fun z => absurd rfl z⟩
  rw [if_neg zp]
  refine ⟨fun z => by
    rw [show (-1 : Int32) = -nI 1 from rfl, n_eqg (by omega) (by omega)] at z; omega, fun _ => ⟨XE_s hE, by omega, XP_s hP, by omega, x_sideOf (f := fun p => isOfG (gS s) p 0) (g := fun p => isOfG (gS s) p 1) (XP_s1 hP) (by omega) (by rw [s0, mb_stL _ _ (by omega)]; simp; omega) (by rw [s1, mb_stL _ _ (by omega)]; simp; omega) (r_X0_line_52 ?_)⟩⟩
  rw [sv u, XO_7 hO]
  by_cases zu : gS s u = 0
  · rw [if_pos zu]
    rw [if_pos (Or.inr (Or.inr (Or.inl zu)))] at q
    refine ⟨fun z => ?_, fun _ => ⟨trivial, q⟩⟩
    rw [n_eqg (by omega) (by omega)] at z; omega
  rw [if_neg zu, n_eq (by omega) (by omega)]
  refine ⟨fun c4 => ⟨XE_s hE, by omega, XP_s hP, x_isLine hB1 hE hP hG hg.1 hp hu zp zu (r_X0_line_68 ?_)⟩, fun c4 => ⟨trivial, ?_⟩⟩
  · rw [if_neg (by omega)] at q
    cases z : lineG B (gS s) p u with
    | false => rw [z] at q; exact ⟨fun _ => ⟨trivial, q⟩, fun z => absurd rfl z⟩
    | true => rw [z] at q; exact ⟨fun z => absurd z (by decide), fun _ => ⟨trivial, q⟩⟩
  · rw [if_pos (Or.inr (Or.inr (Or.inr c4)))] at q; exact q
end
