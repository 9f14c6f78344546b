/-! X: what is asked of a state -/
def XO (w : xw) : Prop := (xR w 256 7 = 345 ∧ xR w 256 8 = 353 ∧ xR w 256 9 = 354 ∧ xR w 256 11 = 675 ∧ xR w 256 12 = 683 ∧ xR w 256 13 = 684 ∧ xR w 256 14 = 717 ∧ xR w 256 15 = 718 ∧ xR w 256 16 = 791 ∧ xR w 256 17 = 792 ∧ xR w 256 21 = 793) ∧
  (xS w 353 = (52, 16) ∧ xS w 354 = (56, 40) ∧ xS w 683 = (56, 4) ∧ xS w 684 = (51, 4) ∧ xS w 717 = (51, 8) ∧ xS w 718 = (56, 9) ∧ xS w 791 = (51, 12) ∧ xS w 792 = (51, 12) ∧ xS w 793 = (54, 74)) ∧ XP 345 w ∧ XP 675 w ∧ (∀ k, k < 4 → xR w 683 k = 685 + 8 * k ∧ XP (685 + 8 * k) w) ∧ ∀ k, k < 9 → xR w 718 k = 719 + 8 * k ∧ XP (719 + 8 * k) w
section
variable {w : xw}
theorem XO_7 (h : XO w) : xR w 256 7 = 345 := h.1.1
theorem XO_8 (h : XO w) : xR w 256 8 = 353 := h.1.2.1
theorem XO_9 (h : XO w) : xR w 256 9 = 354 := h.1.2.2.1
theorem XO_11 (h : XO w) : xR w 256 11 = 675 := h.1.2.2.2.1
theorem XO_12 (h : XO w) : xR w 256 12 = 683 := h.1.2.2.2.2.1
theorem XO_13 (h : XO w) : xR w 256 13 = 684 := h.1.2.2.2.2.2.1
theorem XO_14 (h : XO w) : xR w 256 14 = 717 := h.1.2.2.2.2.2.2.1
theorem XO_15 (h : XO w) : xR w 256 15 = 718 := h.1.2.2.2.2.2.2.2.1
theorem XO_16 (h : XO w) : xR w 256 16 = 791 := h.1.2.2.2.2.2.2.2.2.1
theorem XO_17 (h : XO w) : xR w 256 17 = 792 := h.1.2.2.2.2.2.2.2.2.2.1
theorem XO_21 (h : XO w) : xR w 256 21 = 793 := h.1.2.2.2.2.2.2.2.2.2.2
theorem XO_s8 (h : XO w) : xS w 353 = (52, 16) := h.2.1.1
theorem XO_s9 (h : XO w) : xS w 354 = (56, 40) := h.2.1.2.1
theorem XO_s12 (h : XO w) : xS w 683 = (56, 4) := h.2.1.2.2.1
theorem XO_s13 (h : XO w) : xS w 684 = (51, 4) := h.2.1.2.2.2.1
theorem XO_s14 (h : XO w) : xS w 717 = (51, 8) := h.2.1.2.2.2.2.1
theorem XO_s15 (h : XO w) : xS w 718 = (56, 9) := h.2.1.2.2.2.2.2.1
theorem XO_s16 (h : XO w) : xS w 791 = (51, 12) := h.2.1.2.2.2.2.2.2.1
theorem XO_s17 (h : XO w) : xS w 792 = (51, 12) := h.2.1.2.2.2.2.2.2.2.1
theorem XO_s21 (h : XO w) : xS w 793 = (54, 74) := h.2.1.2.2.2.2.2.2.2.2
theorem XO_n (h : XO w) : XP 345 w := h.2.2.1
theorem XO_t (h : XO w) : XP 675 w := h.2.2.2.1
end
/-- what a question may alter -/
def xfQ (w w' : xw) : Prop := (xN w' = xN w ∧ xB w' = xB w) ∧ (xS w' = xS w ∧ xR w' = xR w) ∧ (∀ i, i ≠ 256 → (i < 345 ∨ (353 < i ∧ i < 675) ∨ 792 < i) → xI w' i = xI w i ∧ xL w' i = xL w i) ∧ (∀ k, k ≠ 18 → k ≠ 19 → xI w' 256 k = xI w 256 k) ∧ xL w' 256 = xL w 256
theorem xfQ_refl (w : xw) : xfQ w w := ⟨⟨rfl, rfl⟩, ⟨rfl, rfl⟩, fun _ _ _ => ⟨rfl, rfl⟩, fun _ _ _ => rfl, rfl⟩
theorem xfQ_trans {w w1 w2 : xw} (h : xfQ w w1) (g : xfQ w1 w2) : xfQ w w2 :=
  ⟨⟨g.1.1.trans h.1.1, g.1.2.trans h.1.2⟩, ⟨g.2.1.1.trans h.2.1.1, g.2.1.2.trans h.2.1.2⟩, fun i h1 h2 => ⟨(g.2.2.1 i h1 h2).1.trans (h.2.2.1 i h1 h2).1, (g.2.2.1 i h1 h2).2.trans (h.2.2.1 i h1 h2).2⟩, fun k h1 h2 => (g.2.2.2.1 k h1 h2).trans (h.2.2.2.1 k h1 h2), g.2.2.2.2.trans h.2.2.2.2⟩
theorem xfQ_of {lo hi : Nat} {w w' : xw} (h : xfr lo hi w w') (h1 : 345 ≤ lo ∧ hi ≤ 353 ∨ 675 ≤ lo ∧ hi ≤ 792) : xfQ w w' :=
  ⟨h.1, ⟨h.2.1, h.2.2.1⟩, fun i _ hi => h.2.2.2 i (by omega), fun k _ _ => by rw [(h.2.2.2 256 (by omega)).1], (h.2.2.2 256 (by omega)).2⟩
theorem xfQ_then {lo hi : Nat} {w w1 w2 : xw} (g : xfQ w w1) (h : xfr lo hi w1 w2) (h1 : 345 ≤ lo ∧ hi ≤ 353 ∨ 675 ≤ lo ∧ hi ≤ 792) : xfQ w w2 := xfQ_trans g (xfQ_of h h1)
theorem xfQ_uO {w : xw} {k : Nat} (v : Int32) (h : k = 18 ∨ k = 19) : xfQ w (xUpI w 256 k v) :=
  ⟨⟨rfl, rfl⟩, ⟨rfl, rfl⟩, fun i hi _ => ⟨(xUpI_ne w 256 k v i hi).1, rfl⟩, fun j h1 h2 => by rw [x_uI, if_neg (by omega)], rfl⟩
theorem XP_sr {a : Nat} {w w' : xw} (h : xS w' = xS w ∧ xR w' = xR w) (g : XP a w) : XP a w' := by
  unfold XP at *
  rw [h.1, h.2]; exact g
theorem XO_sr {w w' : xw} (h : xS w' = xS w ∧ xR w' = xR w) (g : XO w) : XO w' := by
  obtain ⟨g1, g2, g3, g4, g5, g6⟩ := g
  refine ⟨?_, ?_, XP_sr h g3, XP_sr h g4, fun k hk => ⟨?_, XP_sr h (g5 k hk).2⟩, fun k hk => ⟨?_, XP_sr h (g6 k hk).2⟩⟩
  · rw [h.2]; exact g1
  · rw [h.1]; exact g2
  · rw [h.2]; exact (g5 k hk).1
  · rw [h.2]; exact (g6 k hk).1
theorem XO_fr {lo hi : Nat} {w w' : xw} (h : xfr lo hi w w') (g : XO w) : XO w' := XO_sr ⟨h.2.1, h.2.2.1⟩ g
theorem XO_fQ {w w' : xw} (h : xfQ w w') (g : XO w) : XO w' := XO_sr h.2.1 g
theorem XE_fQ {w w' : xw} {B : Bd} {b : Nat} (h : xfQ w w') (g : XE B b w) : XE B b w' := by
  refine ⟨?_, ?_⟩
  · have := g.1
    unfold XT at *
    rw [h.2.1.1, h.2.1.2]; exact this
  · show XBv B b (xS w') (xR w') (xI w') (xL w')
    rw [h.2.1.1, h.2.1.2]
    exact XBv_cong g.2 (fun i hi => (h.2.2.1 i hi.2.1 (by omega)).1) (fun i hi => (h.2.2.1 i hi.2.1 (by omega)).2)
/-- the object stands -/
def XA (B : Bd) (b : Nat) (s : GS) (w : xw) : Prop := XE B b w ∧ XO w ∧ XG B s 345 w
theorem XA_fQ {B : Bd} {b : Nat} {s : GS} {w w' : xw} (h : xfQ w w') (g : XA B b s w) (h2 : XG B s 345 w') : XA B b s w' := ⟨XE_fQ h g.1, XO_fQ h g.2.1, h2⟩
section
variable {Q : Option Value → xw → Prop} {w : xw} {B : Bd} {s t : GS} {a b : Nat}
theorem cnt_all {B : Bd} {st : Nat → Nat} (hN : bN B ≤ 36) (h0 : ∀ p, bN B ≤ p → st p = 0) : cnt (allL st) = stonesG B st none none := by
  refine cnt_fn (by omega) (fun p hp => ?_)
  have e : decide (st p ≠ 0) = decide (0 < st p) := decide_eq_decide.mpr (by omega)
  rw [mb_allL st hp, e]
  by_cases c : p < bN B
  · unfold stF
    simp [c, show p < 36 from by omega]
  · simp [c, h0 p (by omega)]
theorem cnt_side {B : Bd} {st : Nat → Nat} {x : Nat} (hN : bN B ≤ 36) (h0 : ∀ p, bN B ≤ p → st p = 0) : cnt (stL st x) = stonesG B st (some x) none := by
  refine cnt_fn (by omega) (fun p hp => ?_)
  rw [mb_stL st x hp]
  by_cases c : p < bN B
  · unfold stF isOfG
    simp [c, show p < 36 from by omega]
  · have : isOfG st p x = false := by unfold isOfG; rw [h0 p (by omega)]; simp
    simp [c, this]
theorem x_shut (hB : bOk B ∨ bN B = 0) (hE : XE B b w) (hO : XO w) (hP : XP a w) (haa : a = 345 ∨ a = 675) (hG : XG B t a w) (hs : sOk B (gS t)) (h0 : ∀ p, bN B ≤ p → gS t p = 0) {side : Nat} (h2 : side < 2)
    (q : ∀ w', xfQ w w' → (∀ i, i ≠ 353 → i ≠ a → xI w' i = xI w i ∧ xL w' i = xL w i) → XG B t a w' → Q (some (.long (shutG B (gS t) side))) w') : V_X0_shut [.ref 256, .ref a, .int (nI side)] w Q := by
  have hl := partsG_len0 hB (gS t) side
  refine e_X0_shut (r_X0_shut_0 ?_)
  rw [XO_8 hO]
  refine ⟨XE_s hE, by omega, XP_s hP, x_parts hB hE hP hG hs h0 h2 (by omega) (by omega) (XO_s8 hO) (fun w0 i0 f0 g0 _ l0 _ => r_X0_shut_9 ?_)⟩
  have fq : xfQ w w0 := ⟨f0.1, ⟨f0.2.1, f0.2.2.1⟩, fun i _ hi => i0 i (by omega) (by omega), fun k _ _ => by rw [(i0 256 (by omega) (by omega)).1], (i0 256 (by omega) (by omega)).2⟩
  have hE0 := XE_fQ fq hE
  have hO0 := XO_fQ fq hO
  refine upTo (partsG B (gS t) side).length (fun _ (_ : Unit) => True)
    (fun k _ => ∀ {o1 o2 o5 : Option Value}, T_X0_shut Q 16 [some (.ref 256), o1, o2, some (.int (nI (partsG B (gS t) side).length)), some (.long (orL (partsG B (gS t) side) k)), o5, some (.int (nI k))] [] w0) ?_ ?_ 0 () (by omega) trivial
  · intro _ _ o1 o2 o5
    refine r_X0_shut_16 ?_
    (try simp +decide (disch := omega) only [n_lit2, n_add, n_mul, n_tn, n_inT, n_ltT, n_ltF, n_leT, n_leF, n_eqT, n_eqF, n_eqm, n_meq, n_div, n_rem, nb_0, nb_1, nr_b, true_and, and_true, eq_self, Decidable.not_not, not_false_eq_true, not_true_eq_false, false_implies, true_implies, implies_true, Option.toList_some, Option.toList_none, List.cons_append, List.nil_append, xS_uI, xS_uL, xR_uI, xR_uL, xL_uI, xI_uL, xN_uI, xN_uL, xB_uI, xB_uL, add_nz, ge_256, and_self]); (try simp (disch := omega) only [lc_eq, lc_le, lc_lt, lc_ge, lc_gt, mb_t1, mb_t0, bI_0, bI_1, n_in, n_lt, n_le, n_eq, Bool.not_eq_false, Bool.not_eq_true, Decidable.not_not, true_and])
    exact q w0 fq i0 g0
  · intro k _ hk _ next o1 o2 o5
    have r2 := lsL_get l0 hk
    refine r_X0_shut_16 ?_
    (try simp +decide (disch := omega) only [n_lit2, n_add, n_mul, n_tn, n_inT, n_ltT, n_ltF, n_leT, n_leF, n_eqT, n_eqF, n_eqm, n_meq, n_div, n_rem, nb_0, nb_1, nr_b, true_and, and_true, eq_self, Decidable.not_not, not_false_eq_true, not_true_eq_false, false_implies, true_implies, implies_true, Option.toList_some, Option.toList_none, List.cons_append, List.nil_append, xS_uI, xS_uL, xR_uI, xR_uL, xL_uI, xI_uL, xN_uI, xN_uL, xB_uI, xB_uL, add_nz, ge_256, and_self, XE_s hE0, XO_8 hO0, XO_s8 hO0, r2]); (try simp (disch := omega) only [lc_eq, lc_le, lc_lt, lc_ge, lc_gt, mb_t1, mb_t0, bI_0, bI_1, n_in, n_lt, n_le, n_eq, Bool.not_eq_false, Bool.not_eq_true, Decidable.not_not, true_and, XE_s hE0, XO_8 hO0, XO_s8 hO0, r2])
    exact next () trivial
set_option maxHeartbeats 1000000 in
theorem x_has2 {rl ul : Nat} (hN : bN B ≤ 36) (hA : XA B b s w) (hg : gOk B s) (hr : xR w b 5 ≠ 0 ∧ (xS w (xR w b 5)).1 = 17 ∧ xI w (xR w b 5) 2 = nI rl) (hu : xI w 256 10 = nI ul) (a : Int32)
    (q : Q (some (.int (hasR B s rl ul a))) w) : V_X0_has [.ref 256, .int a] w Q := by
  obtain ⟨hE, hO, hG⟩ := hA
  have h16 := hg.2.2.2.2.2.1
  have hP := XO_n hO
  refine e_X0_has (r_X0_has_0 ?_)
  rw [XE_b hE, XO_7 hO]
  refine ⟨fun c => ⟨trivial, ?_⟩, fun c => ?_, fun c => ?_, fun c => ?_, fun c => ?_, fun c => ?_, fun c => ?_, fun c => ?_, fun c => ?_, fun c => ?_, trivial⟩
  · have ne := fun k (hk : k ≤ 8) => swOut (n := 8) (by omega) c hk
    rw [hasR, if_neg (ne 0 (by omega)), if_neg (ne 1 (by omega)), if_neg (ne 2 (by omega)), if_neg (ne 3 (by omega)), if_neg (ne 4 (by omega)), if_neg (ne 5 (by omega)), if_neg (ne 6 (by omega)), if_neg (ne 7 (by omega)), if_neg (ne 8 (by omega))] at q
    exact q
  · subst c; simp +decide only [hasR, ↓reduceIte] at q; rw [XE_w hE]; exact ⟨XE_s hE, hE.2.1.1.1, XE_bs hE, trivial, q⟩
  · subst c; simp +decide only [hasR, ↓reduceIte] at q; rw [XE_h hE]; exact ⟨XE_s hE, hE.2.1.1.1, XE_bs hE, trivial, q⟩
  · subst c; simp +decide only [hasR, ↓reduceIte] at q
    exact ⟨XE_s hE, hE.2.1.1.1, XE_bs hE, hE.2.2.1.1.1, XE_ks hE, x_size hE (r_X0_has_80 ⟨trivial, q⟩)⟩
  · subst c; simp +decide only [hasR, ↓reduceIte] at q
    refine ⟨XE_s hE, hE.2.1.1.1, XE_bs hE, hr.1, hr.2.1, e_J2_size (r_J2_size_0 ⟨hr.2.1, trivial, r_X0_has_93 ⟨trivial, ?_⟩⟩)⟩
    rw [hr.2.2]; exact q
  · subst c; simp +decide only [hasR, ↓reduceIte] at q; rw [hG.1]; exact ⟨XE_s hE, by omega, XP_s hP, trivial, q⟩
  · subst c; simp +decide only [hasR, ↓reduceIte] at q
    refine ⟨XE_s hE, by omega, XP_s hP, x_all hP hG (r_X0_has_109 (x_bitCount _ (r_X0_has_112 ⟨trivial, ?_⟩)))⟩
    rw [cnt_all hN hg.2.1]; exact q
  · subst c; simp +decide only [hasR, ↓reduceIte] at q; rw [hG.2.1]; exact ⟨XE_s hE, by omega, XP_s hP, trivial, q⟩
  · subst c; simp +decide only [hasR, ↓reduceIte] at q
    exact ⟨XE_s hE, by omega, XP_s hP, x_owedPlaces hP hG h16 (r_X0_has_128 (x_bitCount _ (r_X0_has_131 ⟨trivial, q⟩)))⟩
  · subst c; simp +decide only [hasR, ↓reduceIte] at q; rw [hu]; exact ⟨XE_s hE, trivial, q⟩
set_option maxHeartbeats 1000000 in
theorem x_kind2 (hN : bN B ≤ 36) (hK : bK B ≤ 5) (hA : XA B b s w) (hg : gOk B s) (a c : Int32)
    (q0 : ¬ vld a (bK B) → Q (some (.int (-nI 1))) w) (q1 : ∀ k, k < bK B → a = nI k → Q (some (.int (kindR B s k c))) w) : V_X0_kind [.ref 256, .int a, .int c] w Q := by
  obtain ⟨hE, hO, hG⟩ := hA
  have hP := XO_n hO
  refine e_X0_kind (r_X0_kind_0 ⟨XE_s hE, x_isKind hK hE a (r_X0_kind_5 ⟨fun c0 => ?_, fun c0 => ⟨trivial, q0 ?_⟩⟩)⟩)
  rotate_left
  · have := bI_nn0 c0
    rw [decide_eq_false_iff_not] at this; exact this
  have c1 := bI_n0 c0
  rw [decide_eq_true_eq] at c1
  obtain ⟨k, hk, rfl⟩ := vld_ex c1
  have q := q1 k hk rfl
  clear q0 q1
  rw [XE_b hE]
  refine ⟨fun c2 => ⟨fun c3 => x_is _ _ _ (r_X0_kind_49 ?_), fun c3 => ?_⟩, fun c2 => ?_⟩
  · have t2 : (2 : Int32).toInt = 2 := rfl
    have t3 : (3 : Int32).toInt = 3 := rfl
    rw [t2, t3]
    by_cases hv : (2 : Int) ≤ c.toInt ∧ c.toInt ≤ 3
    · have hx : ∃ x, x < 2 ∧ c = nI (2 + x) := by
        refine ⟨(c.toInt - 2).toNat, by omega, ?_⟩
        rw [← Int32.toInt_inj, n_T (by omega)]; omega
      obtain ⟨x, hx, rfl⟩ := hx
      have e2 : nI (2 + x) - nI 2 = nI x := by rw [n_sub (by omega)]; congr 1; omega
      have q' : Q (some (.int (nI (stonesG B (gS s) (some x) (some k))))) w := by
        have x2 : x = 0 ∨ x = 1 := by omega
        rcases x2 with rfl | rfl <;> simp +decide only [kindR, ↓reduceIte] at q <;> exact q
      rw [decide_eq_true hv]
      refine ⟨fun _ => ?_, fun c4 => absurd (show ¬ bI true = 0 by decide) c4⟩
      have r1 := hG.2.2.2.1 x hx
      refine upTo (bN B) (fun _ (_ : Unit) => True)
        (fun p _ => T_X0_kind Q 59 [some (.ref 256), some (.int (nI k)), some (.int (nI (2 + x))), some (.int (nI (smP (fun p => if stF (gS s) (some x) (some k) p = true then 1 else 0) p))), some (.int (nI p))] [] w) ?_ ?_ 0 () (by omega) trivial
      · intro _ _
        refine r_X0_kind_59 ⟨XE_s hE, x_placeMany hE (r_X0_kind_65 ?_)⟩
        (try simp +decide (disch := omega) only [n_lit2, n_add, n_mul, n_tn, n_inT, n_ltT, n_ltF, n_leT, n_leF, n_eqT, n_eqF, n_eqm, n_meq, n_div, n_rem, nb_0, nb_1, nr_b, true_and, and_true, eq_self, Decidable.not_not, not_false_eq_true, not_true_eq_false, false_implies, true_implies, implies_true, Option.toList_some, Option.toList_none, List.cons_append, List.nil_append, xS_uI, xS_uL, xR_uI, xR_uL, xL_uI, xI_uL, xN_uI, xN_uL, xB_uI, xB_uL, add_nz, ge_256, and_self]); (try simp (disch := omega) only [lc_eq, lc_le, lc_lt, lc_ge, lc_gt, mb_t1, mb_t0, bI_0, bI_1, n_in, n_lt, n_le, n_eq, Bool.not_eq_false, Bool.not_eq_true, Decidable.not_not, true_and])
        exact q'
      · intro p _ hp _ next
        have nx := next () trivial
        unfold smP at nx
        have mp : mb (stL (gS s) x) p = isOfG (gS s) p x := by rw [mb_stL _ _ (by omega)]; simp; omega
        have hst : stF (gS s) (some x) (some k) p = (isOfG (gS s) p x && decide (kdG (gS s) p = k)) := rfl
        rw [hst] at nx
        refine r_X0_kind_59 ⟨XE_s hE, x_placeMany hE (r_X0_kind_65 ?_)⟩
        have r3 := hG.2.2.2.2.2.1 p (by omega)
        cases z : isOfG (gS s) p x with
        | false =>
          rw [z] at mp nx
          (try simp +decide (disch := omega) only [n_lit2, n_add, n_mul, n_tn, n_inT, n_ltT, n_ltF, n_leT, n_leF, n_eqT, n_eqF, n_eqm, n_meq, n_div, n_rem, nb_0, nb_1, nr_b, true_and, and_true, eq_self, Decidable.not_not, not_false_eq_true, not_true_eq_false, false_implies, true_implies, implies_true, Option.toList_some, Option.toList_none, List.cons_append, List.nil_append, xS_uI, xS_uL, xR_uI, xR_uL, xL_uI, xI_uL, xN_uI, xN_uL, xB_uI, xB_uL, add_nz, ge_256, and_self, XE_s hE, XO_7 hO, XP_s hP, XP_r2 hP, XP_r3 hP, XP_r7 hP, XP_r8 hP, XP_r9 hP, XP_r11 hP, XP_r12 hP, XP_r13 hP, XP_s1 hP, XP_s2 hP, XP_s3 hP, XP_s4 hP, XP_s5 hP, XP_s6 hP, XP_s7 hP, e2, r1, mp]); (try simp (disch := omega) only [lc_eq, lc_le, lc_lt, lc_ge, lc_gt, mb_t1, mb_t0, bI_0, bI_1, n_in, n_lt, n_le, n_eq, Bool.not_eq_false, Bool.not_eq_true, Decidable.not_not, true_and, XE_s hE, XO_7 hO, XP_s hP, XP_r2 hP, XP_r3 hP, XP_r7 hP, XP_r8 hP, XP_r9 hP, XP_r11 hP, XP_r12 hP, XP_r13 hP, XP_s1 hP, XP_s2 hP, XP_s3 hP, XP_s4 hP, XP_s5 hP, XP_s6 hP, XP_s7 hP, e2, r1, mp])
          exact ⟨fun _ => nx, fun z => by cases z⟩
        | true =>
          rw [z] at mp nx
          have r3 := r3 (isOf_ne z)
          have kb := sOk_kd hg.1 (isOf_ne z)
          (try simp +decide (disch := omega) only [n_lit2, n_add, n_mul, n_tn, n_inT, n_ltT, n_ltF, n_leT, n_leF, n_eqT, n_eqF, n_eqm, n_meq, n_div, n_rem, nb_0, nb_1, nr_b, true_and, and_true, eq_self, Decidable.not_not, not_false_eq_true, not_true_eq_false, false_implies, true_implies, implies_true, Option.toList_some, Option.toList_none, List.cons_append, List.nil_append, xS_uI, xS_uL, xR_uI, xR_uL, xL_uI, xI_uL, xN_uI, xN_uL, xB_uI, xB_uL, add_nz, ge_256, and_self, XE_s hE, XO_7 hO, XP_s hP, XP_r2 hP, XP_r3 hP, XP_r7 hP, XP_r8 hP, XP_r9 hP, XP_r11 hP, XP_r12 hP, XP_r13 hP, XP_s1 hP, XP_s2 hP, XP_s3 hP, XP_s4 hP, XP_s5 hP, XP_s6 hP, XP_s7 hP, e2, r1, mp, r3]); (try simp (disch := omega) only [lc_eq, lc_le, lc_lt, lc_ge, lc_gt, mb_t1, mb_t0, bI_0, bI_1, n_in, n_lt, n_le, n_eq, Bool.not_eq_false, Bool.not_eq_true, Decidable.not_not, true_and, XE_s hE, XO_7 hO, XP_s hP, XP_r2 hP, XP_r3 hP, XP_r7 hP, XP_r8 hP, XP_r9 hP, XP_r11 hP, XP_r12 hP, XP_r13 hP, XP_s1 hP, XP_s2 hP, XP_s3 hP, XP_s4 hP, XP_s5 hP, XP_s6 hP, XP_s7 hP, e2, r1, mp, r3])
          refine ⟨fun c4 => absurd trivial c4, fun _ => ⟨fun c5 => ?_, fun c5 => ?_⟩⟩
          · rw [decide_eq_false c5] at nx; exact nx
          · rw [decide_eq_true c5] at nx; exact nx
    · rw [decide_eq_false hv]
      refine ⟨fun c4 => absurd rfl c4, fun _ => ⟨trivial, ?_⟩⟩
      have n2 : ¬ c = nI 2 := fun z => hv (by rw [z]; decide)
      have n3 : ¬ c = nI 3 := fun z => hv (by rw [z]; decide)
      rw [kindR, if_neg (show ¬ c = nI 0 from c2), if_neg (show ¬ c = nI 1 from c3), if_neg n2, if_neg n3] at q
      exact q
  · rw [Decidable.not_not] at c3
    subst c3
    simp +decide only [kindR, ↓reduceIte] at q
    refine ⟨XE_s hE, hE.2.1.1.1, XE_bs hE, x_kind hK hE hk (fun k1 _ k3 k4 => r_X0_kind_39 ⟨k1, trivial, ?_⟩)⟩
    rw [k4]; exact q
  · rw [Decidable.not_not] at c2
    subst c2
    simp +decide only [kindR, ↓reduceIte] at q
    refine ⟨XE_s hE, hE.2.1.1.1, XE_bs hE, x_kind hK hE hk (fun k1 _ k3 k4 => r_X0_kind_22 ⟨k1, trivial, ?_⟩)⟩
    rw [k3]; exact q
end
