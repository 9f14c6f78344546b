/-! X: what is hidden -/
def xfW (w w' : xw) : Prop := (xN w' = xN w ∧ xB w' = xB w) ∧ (xS w' = xS w ∧ xR w' = xR w) ∧ ∀ i, i ≠ 353 → (i < 675 ∨ 682 < i) → xI w' i = xI w i ∧ xL w' i = xL w i
theorem xfW_Q {w w' : xw} (h : xfW w w') (hL : ∀ i, 345 ≤ i → i ≤ 353 → True) : xfQ w w' := ⟨h.1, h.2.1, fun i h1 h2 => h.2.2 i (by omega) (by omega), fun k _ _ => by rw [(h.2.2 256 (by omega) (by omega)).1], (h.2.2 256 (by omega) (by omega)).2⟩
theorem xfW_trans {w w1 w2 : xw} (h : xfW w w1) (g : xfW w1 w2) : xfW w w2 := ⟨⟨g.1.1.trans h.1.1, g.1.2.trans h.1.2⟩, ⟨g.2.1.1.trans h.2.1.1, g.2.1.2.trans h.2.1.2⟩, fun i h1 h2 => ⟨(g.2.2 i h1 h2).1.trans (h.2.2 i h1 h2).1, (g.2.2 i h1 h2).2.trans (h.2.2 i h1 h2).2⟩⟩
theorem xfW_of {lo hi : Nat} {w w' : xw} (h : xfr lo hi w w') (h1 : 675 ≤ lo ∧ hi ≤ 682) : xfW w w' := ⟨h.1, ⟨h.2.1, h.2.2.1⟩, fun i _ hi => h.2.2.2 i (by omega)⟩
theorem XG_W {a : Nat} {w w' : xw} {B : Bd} {s : GS} (h : xfW w w') (h1 : a + 7 < 353 ∨ (353 < a ∧ a + 7 < 675) ∨ 682 < a) (g : XG B s a w) : XG B s a w' := by
  obtain ⟨g1, g2, g3, g4, g5, g6, g7, g8, g9, g10⟩ := g
  have e := fun i (hi : a ≤ i ∧ i ≤ a + 7) => h.2.2 i (by omega) (by omega)
  exact ⟨by rw [(e a (by omega)).1]; exact g1, by rw [(e a (by omega)).1]; exact g2, by rw [(e _ (by omega)).2]; exact g3, by rw [(e _ (by omega)).2]; exact g4, by rw [(e _ (by omega)).2]; exact g5, by rw [(e _ (by omega)).1]; exact g6, by rw [(e _ (by omega)).1]; exact g7, by rw [(e a (by omega)).2]; exact g8, by rw [(e a (by omega)).2]; exact g9, by rw [(e a (by omega)).2]; exact g10⟩
/-- the free places as they lie -/
def XFr (fl : List Nat) (w : xw) : Prop := xI w 256 18 = nI fl.length ∧ ∀ k, k < fl.length → xI w 791 k = nI (fl.getD k 0)
section
variable {Q : Option Value → xw → Prop} {w : xw} {B : Bd} {s t : GS} {a b : Nat} {H : List GS}
theorem x_isWay (hB : bOk B) (hK0 : 0 < bK B) (hA : XA B b s w) (hg : gOk B s) {fl : List Nat} (hl : fl.length ≤ 12) (hF : XFr fl w) (hs : fl.Pairwise (fun a b => a < b)) (hm : ∀ k, k < fl.length → fl.getD k 0 < bN B ∧ gS s (fl.getD k 0) = 0) {way side told : Nat} (hw : way < 4096) (h2 : side < 2) (ht : told < bN B)
    (q : ∀ w', xfW w w' → XG B s 345 w' → Q (some (.int (bI (wayOk B (gS s) fl side told way)))) w') : V_X0_isWay [.ref 256, .int (nI way), .int (nI side), .int (nI told)] w Q := by
  have hN := hB.2.2.2.2.1
  have hK := hB.2.2.2.2.2.1
  obtain ⟨hE, hO, hG⟩ := id hA
  have hP := XO_n hO
  have hT := XO_t hO
  have h16 := hg.2.2.2.2.2.1
  refine e_X0_isWay (r_X0_isWay_0 ?_)
  rw [XO_11 hO, XO_7 hO]
  refine ⟨XE_s hE, by omega, XE_s hE, by omega, XP_s hT, x_copy hT hP (by omega) hG h16 (fun w0 f0 g0 => r_X0_isWay_11 ?_)⟩
  refine upTo fl.length (fun k (w1 : xw) => xfr 675 682 w w1 ∧ XG B (hst (gS s) fl side way k, gL s, gC s, gD s, gO s) 675 w1)
    (fun k w1 => T_X0_isWay Q 14 [some (.ref 256), some (.int (nI way)), some (.int (nI side)), some (.int (nI told)), some (.int (nI k))] [] w1) ?_ ?_ 0 w0 (by omega) ⟨xfr_wk f0 (by omega), g0⟩
  · intro w1 ⟨f1, g1⟩
    have hE1 := XE_fr f1 (by omega) hE
    have hO1 := XO_fr f1 hO
    have r1 : xI w1 256 18 = nI fl.length := by rw [(f1.2.2.2 256 (by omega)).1]; exact hF.1
    refine r_X0_isWay_14 ?_
    (try simp +decide (disch := omega) only [n_lit2, n_add, n_mul, n_tn, n_inT, n_ltT, n_ltF, n_leT, n_leF, n_eqT, n_eqF, n_eqm, n_meq, n_div, n_rem, nb_0, nb_1, nr_b, true_and, and_true, eq_self, Decidable.not_not, not_false_eq_true, not_true_eq_false, false_implies, true_implies, implies_true, Option.toList_some, Option.toList_none, List.cons_append, List.nil_append, xS_uI, xS_uL, xR_uI, xR_uL, xL_uI, xI_uL, xN_uI, xN_uL, xB_uI, xB_uL, add_nz, ge_256, and_self, XE_s hE1, r1, XO_11 hO1]); (try simp (disch := omega) only [lc_eq, lc_le, lc_lt, lc_ge, lc_gt, mb_t1, mb_t0, bI_0, bI_1, n_in, n_lt, n_le, n_eq, Bool.not_eq_false, Bool.not_eq_true, Decidable.not_not, true_and, XE_s hE1, r1, XO_11 hO1])
    refine x_shut (Or.inl hB) hE1 hO1 (XO_t hO1) (Or.inr rfl) g1 (hst_ok hg.1 hK0 h2 _) (fun p hp => ?_) h2 (fun w2 f2 i2 g2 => r_X0_isWay_64 ?_)
    · show hst (gS s) fl side way fl.length p = 0
      rw [hst_off (fun j hj z => by have := (hm j hj).1; omega)]; exact hg.2.1 p hp
    · have fw : xfW w w2 := xfW_trans (xfW_of f1 (by omega)) ⟨f2.1, f2.2.1, fun i h1 h3 => i2 i h1 (by omega)⟩
      have hG2 : XG B s 345 w2 := XG_W fw (by omega) hG
      have q := q w2 fw hG2
      unfold wayOk at q
      rw [lg_cmp_eq, mb_t1 _ (by omega)]
      refine ⟨fun c => ⟨nr_0, ?_⟩, fun c => ⟨nr_1, ?_⟩⟩
      · rw [show mb (shutG B (hst (gS s) fl side way fl.length) side) told = false from by simpa using c] at q; exact q
      · rw [show mb (shutG B (hst (gS s) fl side way fl.length) side) told = true from Decidable.not_not.mp c] at q; exact q
  · intro k w1 hk ⟨f1, g1⟩ next
    have hE1 := XE_fr f1 (by omega) hE
    have hO1 := XO_fr f1 hO
    have r1 : xI w1 256 18 = nI fl.length := by rw [(f1.2.2.2 256 (by omega)).1]; exact hF.1
    have r2 : xI w1 791 k = nI (fl.getD k 0) := by rw [(f1.2.2.2 791 (by omega)).1]; exact hF.2 k hk
    obtain ⟨m1, m2⟩ := hm k hk
    have ek : nI k + 1 = nI (k + 1) := n_add _ 1
    have hz : hst (gS s) fl side way k (fl.getD k 0) = 0 := by
      rw [hst_off (fun j hj z => by have := srt_get hs hj hk; omega)]; exact m2
    refine r_X0_isWay_14 ?_
    rw [r1, n_le (by omega) (by omega), i_bit1 (by omega) (by omega), XO_11 hO1, XO_16 hO1, n_tn (by omega), r2]
    refine ⟨XE_s hE1, fun z => by omega, fun _ => ⟨fun c => r_X0_isWay_49 ?_, fun c => ⟨XE_s hE1, by omega, XE_s hE1, by omega, by rw [XO_s16 hO1], by rw [XO_s16 hO1]; exact (n_in (by omega)).mpr (by omega), XP_s (XO_t hO1), ?_⟩⟩⟩
    · rw [ek]
      refine next w1 ⟨f1, ?_⟩
      have : hst (gS s) fl side way (k + 1) = hst (gS s) fl side way k := if_neg c
      rw [this]; exact g1
    · refine x_lays (k := 0) hB hE1 (XO_t hO1) g1 h2 hK0 m1 hz (fun w2 f2 g2 => r_X0_isWay_49 ?_)
      rw [ek]
      refine next w2 ⟨xfr_trans f1 f2 (by omega) (by omega), ?_⟩
      have : hst (gS s) fl side way (k + 1) = upN (hst (gS s) fl side way k) (fl.getD k 0) (2 + side) := if_pos (Decidable.not_not.mp c)
      rw [this]
      rw [show 2 + 2 * 0 + side = 2 + side from by omega] at g2
      exact g2
theorem x_counts (hE : XE B b w) (hO : XO w) {n way : Nat} (hn : n ≤ 12) (hw : way < 4096) (r1 : xI w 256 18 = nI n)
    (q : ∀ w', xfQ w w' → (∀ i, i ≠ 256 → i ≠ 792 → xI w' i = xI w i) → xL w' = xL w → xI w' 256 18 = nI n → xI w' 256 19 = xI w 256 19 + 1 → (∀ k, k < n → xI w' 792 k = xI w 792 k + nI (if way.testBit k then 1 else 0)) → Q none w') : V_X0_counts [.ref 256, .int (nI way)] w Q := by
  refine e_X0_counts (r_X0_counts_0 ?_)
  refine ⟨XE_s hE, XE_s hE, by omega, ?_⟩
  have hOu : ∀ v, XO (xUpI w 256 19 v) := fun v => XO_sr (w := w) ⟨rfl, rfl⟩ hO
  refine upTo n (fun k (w1 : xw) => xfQ w w1 ∧ (∀ i, i ≠ 256 → i ≠ 792 → xI w1 i = xI w i) ∧ xL w1 = xL w ∧ xI w1 256 18 = nI n ∧ xI w1 256 19 = xI w 256 19 + 1 ∧ (∀ j, j < k → xI w1 792 j = xI w 792 j + nI (if way.testBit j then 1 else 0)) ∧ ∀ j, k ≤ j → xI w1 792 j = xI w 792 j)
    (fun k w1 => T_X0_counts Q 12 [some (.ref 256), some (.int (nI way)), some (.int (nI k))] [] w1) ?_ ?_ 0 _ (by omega) ⟨xfQ_uO _ (Or.inr rfl), fun i hi _ => x_uI_ne hi, rfl, by rw [x_uI, if_neg (by omega)]; exact r1, by rw [x_uI, if_pos ⟨rfl, rfl⟩], fun j hj => by omega, fun j _ => by rw [x_uI_ne (by omega)]⟩
  · intro w1 ⟨f1, i1, l1, a1, b1, c1, d1⟩
    have hE1 := XE_fQ f1 hE
    refine r_X0_counts_12 ?_
    (try simp +decide (disch := omega) only [n_lit2, n_add, n_mul, n_tn, n_inT, n_ltT, n_ltF, n_leT, n_leF, n_eqT, n_eqF, n_eqm, n_meq, n_div, n_rem, nb_0, nb_1, nr_b, true_and, and_true, eq_self, Decidable.not_not, not_false_eq_true, not_true_eq_false, false_implies, true_implies, implies_true, Option.toList_some, Option.toList_none, List.cons_append, List.nil_append, xS_uI, xS_uL, xR_uI, xR_uL, xL_uI, xI_uL, xN_uI, xN_uL, xB_uI, xB_uL, add_nz, ge_256, and_self, XE_s hE1, a1]); (try simp (disch := omega) only [lc_eq, lc_le, lc_lt, lc_ge, lc_gt, mb_t1, mb_t0, bI_0, bI_1, n_in, n_lt, n_le, n_eq, Bool.not_eq_false, Bool.not_eq_true, Decidable.not_not, true_and, XE_s hE1, a1])
    exact q w1 f1 i1 l1 a1 b1 c1
  · intro k w1 hk ⟨f1, i1, l1, a1, b1, c1, d1⟩ next
    have hE1 := XE_fQ f1 hE
    have hO1 := XO_fQ f1 hO
    have dk := d1 k (Nat.le_refl _)
    have ek : nI k + 1 = nI (k + 1) := n_add _ 1
    refine r_X0_counts_12 ?_
    rw [a1, n_le (by omega) (by omega), XO_17 hO1, n_tn (by omega), dk, i_bit (by omega) (by omega), ek]
    refine ⟨XE_s hE1, fun z => by omega, fun _ => ⟨XE_s hE1, by omega, by rw [XO_s17 hO1], by rw [XO_s17 hO1]; exact (n_in (by omega)).mpr (by omega), by rw [XO_s17 hO1], by omega, by rw [XO_s17 hO1]; exact (n_in (by omega)).mpr (by omega), next _ ⟨xfQ_then f1 (xfr_uI (lo := 792) (hi := 792) w1 _ _ (by omega)) (by omega), fun i h1 h2 => by rw [x_uI_ne h2]; exact i1 i h1 h2, l1, by rw [x_uI_ne (by omega)]; exact a1, by rw [x_uI_ne (by omega)]; exact b1, fun j hj => ?_, fun j hj => ?_⟩⟩⟩
    · rw [x_uI]
      by_cases z : j = k
      · subst z; rw [if_pos ⟨rfl, rfl⟩]
      · rw [if_neg (by omega)]; exact c1 j (by omega)
    · rw [x_uI, if_neg (by omega)]; exact d1 j (by omega)
end
theorem lt_b1 {x : Int64} {N : Nat} (hN : N ≤ 36) (h : ¬ x < 0) : x < b1 N ↔ hidIn x N := by
  have h63 : mb x 63 = false := by
    cases z : mb x 63 with
    | false => rfl
    | true => exact absurd ((mb_neg x).mpr z) h
  have ti : x.toInt = (nn x : Int) := by
    have hx := nn_lt x
    have : nn x < 2 ^ 63 := by
      apply Nat.lt_pow_two_of_testBit
      intro i hi
      by_cases z : i = 63
      · rw [z, ← mb_nat]; exact h63
      · exact Nat.testBit_lt_two_pow (Nat.lt_of_lt_of_le hx (Nat.pow_le_pow_right (by omega) (by omega)))
    show x.toBitVec.toInt = _
    rw [BitVec.toInt_eq_toNat_of_lt (by show 2 * nn x < 2 ^ 64; omega)]
  have tb : (b1 N).toInt = ((2 ^ N : Nat) : Int) := by
    have : ∀ N, N ≤ 36 → (b1 N).toInt = ((2 ^ N : Nat) : Int) := by decide +kernel
    exact this N hN
  rw [Int64.lt_iff_toInt_lt, ti, tb]
  constructor
  · intro hl p h1 h2
    have hl : nn x < 2 ^ N := by omega
    rw [mb_nat]
    exact Nat.testBit_lt_two_pow (Nat.lt_of_lt_of_le hl (Nat.pow_le_pow_right (by omega) h1))
  · intro hh
    have : nn x < 2 ^ N := by
      apply Nat.lt_pow_two_of_testBit
      intro i hi
      by_cases z : i < 64
      · rw [← mb_nat]; exact hh i hi z
      · exact Nat.testBit_lt_two_pow (Nat.lt_of_lt_of_le (nn_lt x) (Nat.pow_le_pow_right (by omega) (by omega)))
    omega
theorem hfL_len (set : Int64) (st : Nat → Nat) (n : Nat) : (hfL set st n).length = smP (fun p => if (mb set p && decide (st p = 0)) = true then 1 else 0) n := by
  induction n with
  | zero => rfl
  | succ n ih =>
    have e : hfL set st (n + 1) = if (mb set n && decide (st n = 0)) = true then hfL set st n ++ [n] else hfL set st n := rfl
    have e2 : smP (fun p => if (mb set p && decide (st p = 0)) = true then 1 else 0) (n + 1) = smP (fun p => if (mb set p && decide (st p = 0)) = true then 1 else 0) n + (if (mb set n && decide (st n = 0)) = true then 1 else 0) := rfl
    rw [e, e2, ← ih]
    split
    · rw [List.length_append, List.length_singleton]
    · rfl
theorem mb_open {B : Bd} {st : Nat → Nat} {set : Int64} (hN : bN B ≤ 36) (hi : hidIn set (bN B)) {p : Nat} (hp : p < 64) : mb (set &&& (allL st ^^^ (-1))) p = (decide (p < bN B) && (mb set p && decide (st p = 0))) := by
  rw [mb_and, mb_not _ hp, mb_allL _ hp]
  by_cases c : p < bN B
  · by_cases z : st p = 0 <;> simp [c, z, show p < 36 from by omega]
  · rw [hi p (by omega) hp]; simp
