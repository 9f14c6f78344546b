/-! copies of what a day alters -/
theorem s_keeps {Q : Option Value → mw → Prop} {M : mw} {l : Nat} (hl : l ≤ 4)
    (q : ∀ M', fr 67 68 M M' → (∀ i, i < 110 → M'.1 67 (110 * l + i) = M.1 56 i) → (∀ j, (j < 110 * l ∨ 110 * l + 110 ≤ j) → M'.1 67 j = M.1 67 j) → (∀ i, i < 16 → M'.2 68 (16 * l + i) = M.2 57 i) → (∀ j, (j < 16 * l ∨ 16 * l + 16 ≤ j) → M'.2 68 j = M.2 68 j) → Q none M') : V_keeps [.ref 0, .int (nI l)] M Q := by
  have second : ∀ M0 : mw, fr 67 68 M M0 → (∀ i, i < 110 → M0.1 67 (110 * l + i) = M.1 56 i) → (∀ j, (j < 110 * l ∨ 110 * l + 110 ≤ j) → M0.1 67 j = M.1 67 j) → M0.2 68 = M.2 68 → T_keeps Q 33 [some (.ref 0), some (.int (nI l)), some (.int (nI 0))] [] M0 := by
    intro M0 f0 a0 b0 c0
    refine upTo 16 (fun k (M1 : mw) => fr 67 68 M M1 ∧ M1.1 67 = M0.1 67 ∧ (∀ i, i < k → M1.2 68 (16 * l + i) = M.2 57 i) ∧ ∀ j, (j < 16 * l ∨ 16 * l + k ≤ j) → M1.2 68 j = M.2 68 j)
      (fun k M1 => T_keeps Q 33 [some (.ref 0), some (.int (nI l)), some (.int (nI k))] [] M1) ?_ ?_ 0 M0 (by omega) ⟨f0, rfl, fun i hi => by omega, fun j _ => by rw [c0]⟩
    · intro M1 ⟨f1, a1, b1, c1⟩
      refine r_keeps_33 ?_
      (try simp +decide (disch := omega) only [n_lit2, n_add, n_mul, n_tn, n_inT, n_ltT, n_ltF, n_leT, n_leF, n_eqT, n_eqF, n_eqm, n_meq, n_div, n_rem, nb_0, nb_1, nr_b, true_and, and_true, eq_self, Decidable.not_not, not_false_eq_true, not_true_eq_false, false_implies, true_implies, implies_true, Option.toList_some, Option.toList_none, List.cons_append, List.nil_append]); (try simp (disch := omega) only [lc_eq, lc_le, lc_lt, lc_ge, lc_gt, mb_t1, mb_t0, bI_0, bI_1, n_in, n_lt, n_le, n_eq, Bool.not_eq_false, Bool.not_eq_true, Decidable.not_not, true_and])
      exact q M1 f1 (fun i hi => by rw [a1]; exact a0 i hi) (fun j hj => by rw [a1]; exact b0 j hj) b1 c1
    · intro k M1 hk ⟨f1, a1, b1, c1⟩ next
      refine r_keeps_33 ?_
      (try simp +decide (disch := omega) only [n_lit2, n_add, n_mul, n_tn, n_inT, n_ltT, n_ltF, n_leT, n_leF, n_eqT, n_eqF, n_eqm, n_meq, n_div, n_rem, nb_0, nb_1, nr_b, true_and, and_true, eq_self, Decidable.not_not, not_false_eq_true, not_true_eq_false, false_implies, true_implies, implies_true, Option.toList_some, Option.toList_none, List.cons_append, List.nil_append]); (try simp (disch := omega) only [lc_eq, lc_le, lc_lt, lc_ge, lc_gt, mb_t1, mb_t0, bI_0, bI_1, n_in, n_lt, n_le, n_eq, Bool.not_eq_false, Bool.not_eq_true, Decidable.not_not, true_and])
      refine next _ ⟨fr_trans f1 (fr_upl (lo := 67) (hi := 68) M1 _ _ (by omega)) (by omega) (by omega), a1, fun i hi => ?_, fun j hj => ?_⟩
      · rw [m_upl]
        by_cases e : i = k
        · rw [if_pos ⟨rfl, by rw [e]⟩, (f1 57 (by omega)).2, e]
        · rw [if_neg (by omega)]; exact b1 i (by omega)
      · rw [m_upl, if_neg (by omega)]; exact c1 j (by omega)
  refine e_keeps (r_keeps_0 ?_)
  refine upTo 110 (fun k (M1 : mw) => fr 67 68 M M1 ∧ M1.2 68 = M.2 68 ∧ (∀ i, i < k → M1.1 67 (110 * l + i) = M.1 56 i) ∧ ∀ j, (j < 110 * l ∨ 110 * l + k ≤ j) → M1.1 67 j = M.1 67 j)
    (fun k M1 => T_keeps Q 2 [some (.ref 0), some (.int (nI l)), some (.int (nI k))] [] M1) ?_ ?_ 0 M (by omega) ⟨fr_refl _ _ _, rfl, fun i hi => by omega, fun j _ => rfl⟩
  · intro M1 ⟨f1, a1, b1, c1⟩
    refine r_keeps_2 ?_
    (try simp +decide (disch := omega) only [n_lit2, n_add, n_mul, n_tn, n_inT, n_ltT, n_ltF, n_leT, n_leF, n_eqT, n_eqF, n_eqm, n_meq, n_div, n_rem, nb_0, nb_1, nr_b, true_and, and_true, eq_self, Decidable.not_not, not_false_eq_true, not_true_eq_false, false_implies, true_implies, implies_true, Option.toList_some, Option.toList_none, List.cons_append, List.nil_append]); (try simp (disch := omega) only [lc_eq, lc_le, lc_lt, lc_ge, lc_gt, mb_t1, mb_t0, bI_0, bI_1, n_in, n_lt, n_le, n_eq, Bool.not_eq_false, Bool.not_eq_true, Decidable.not_not, true_and])
    exact second M1 f1 b1 c1 a1
  · intro k M1 hk ⟨f1, a1, b1, c1⟩ next
    refine r_keeps_2 ?_
    (try simp +decide (disch := omega) only [n_lit2, n_add, n_mul, n_tn, n_inT, n_ltT, n_ltF, n_leT, n_leF, n_eqT, n_eqF, n_eqm, n_meq, n_div, n_rem, nb_0, nb_1, nr_b, true_and, and_true, eq_self, Decidable.not_not, not_false_eq_true, not_true_eq_false, false_implies, true_implies, implies_true, Option.toList_some, Option.toList_none, List.cons_append, List.nil_append]); (try simp (disch := omega) only [lc_eq, lc_le, lc_lt, lc_ge, lc_gt, mb_t1, mb_t0, bI_0, bI_1, n_in, n_lt, n_le, n_eq, Bool.not_eq_false, Bool.not_eq_true, Decidable.not_not, true_and])
    refine next _ ⟨fr_trans f1 (fr_up (lo := 67) (hi := 68) M1 _ _ (by omega)) (by omega) (by omega), a1, fun i hi => ?_, fun j hj => ?_⟩
    · rw [m_up]
      by_cases e : i = k
      · rw [if_pos ⟨rfl, by rw [e]⟩, (f1 56 (by omega)).1, e]
      · rw [if_neg (by omega)]; exact b1 i (by omega)
    · rw [m_up, if_neg (by omega)]; exact c1 j (by omega)
theorem s_back {Q : Option Value → mw → Prop} {M : mw} {l : Nat} (hl : l ≤ 4)
    (q : ∀ M', fr 56 57 M M' → (∀ i, i < 110 → M'.1 56 i = M.1 67 (110 * l + i)) → (∀ i, i < 16 → M'.2 57 i = M.2 68 (16 * l + i)) → Q none M') : V_back [.ref 0, .int (nI l)] M Q := by
  have second : ∀ M0 : mw, fr 56 57 M M0 → (∀ i, i < 110 → M0.1 56 i = M.1 67 (110 * l + i)) → T_back Q 33 [some (.ref 0), some (.int (nI l)), some (.int (nI 0))] [] M0 := by
    intro M0 f0 a0
    refine upTo 16 (fun k (M1 : mw) => fr 56 57 M M1 ∧ M1.1 56 = M0.1 56 ∧ ∀ i, i < k → M1.2 57 i = M.2 68 (16 * l + i))
      (fun k M1 => T_back Q 33 [some (.ref 0), some (.int (nI l)), some (.int (nI k))] [] M1) ?_ ?_ 0 M0 (by omega) ⟨f0, rfl, fun i hi => by omega⟩
    · intro M1 ⟨f1, a1, b1⟩
      refine r_back_33 ?_
      (try simp +decide (disch := omega) only [n_lit2, n_add, n_mul, n_tn, n_inT, n_ltT, n_ltF, n_leT, n_leF, n_eqT, n_eqF, n_eqm, n_meq, n_div, n_rem, nb_0, nb_1, nr_b, true_and, and_true, eq_self, Decidable.not_not, not_false_eq_true, not_true_eq_false, false_implies, true_implies, implies_true, Option.toList_some, Option.toList_none, List.cons_append, List.nil_append]); (try simp (disch := omega) only [lc_eq, lc_le, lc_lt, lc_ge, lc_gt, mb_t1, mb_t0, bI_0, bI_1, n_in, n_lt, n_le, n_eq, Bool.not_eq_false, Bool.not_eq_true, Decidable.not_not, true_and])
      exact q M1 f1 (fun i hi => by rw [a1]; exact a0 i hi) b1
    · intro k M1 hk ⟨f1, a1, b1⟩ next
      refine r_back_33 ?_
      (try simp +decide (disch := omega) only [n_lit2, n_add, n_mul, n_tn, n_inT, n_ltT, n_ltF, n_leT, n_leF, n_eqT, n_eqF, n_eqm, n_meq, n_div, n_rem, nb_0, nb_1, nr_b, true_and, and_true, eq_self, Decidable.not_not, not_false_eq_true, not_true_eq_false, false_implies, true_implies, implies_true, Option.toList_some, Option.toList_none, List.cons_append, List.nil_append]); (try simp (disch := omega) only [lc_eq, lc_le, lc_lt, lc_ge, lc_gt, mb_t1, mb_t0, bI_0, bI_1, n_in, n_lt, n_le, n_eq, Bool.not_eq_false, Bool.not_eq_true, Decidable.not_not, true_and])
      refine next _ ⟨fr_trans f1 (fr_upl (lo := 56) (hi := 57) M1 _ _ (by omega)) (by omega) (by omega), a1, fun i hi => ?_⟩
      rw [m_upl]
      by_cases e : i = k
      · rw [if_pos ⟨rfl, e⟩, (f1 68 (by omega)).2, e]
      · rw [if_neg (by omega)]; exact b1 i (by omega)
  refine e_back (r_back_0 ?_)
  refine upTo 110 (fun k (M1 : mw) => fr 56 57 M M1 ∧ ∀ i, i < k → M1.1 56 i = M.1 67 (110 * l + i))
    (fun k M1 => T_back Q 2 [some (.ref 0), some (.int (nI l)), some (.int (nI k))] [] M1) ?_ ?_ 0 M (by omega) ⟨fr_refl _ _ _, fun i hi => by omega⟩
  · intro M1 ⟨f1, b1⟩
    refine r_back_2 ?_
    (try simp +decide (disch := omega) only [n_lit2, n_add, n_mul, n_tn, n_inT, n_ltT, n_ltF, n_leT, n_leF, n_eqT, n_eqF, n_eqm, n_meq, n_div, n_rem, nb_0, nb_1, nr_b, true_and, and_true, eq_self, Decidable.not_not, not_false_eq_true, not_true_eq_false, false_implies, true_implies, implies_true, Option.toList_some, Option.toList_none, List.cons_append, List.nil_append]); (try simp (disch := omega) only [lc_eq, lc_le, lc_lt, lc_ge, lc_gt, mb_t1, mb_t0, bI_0, bI_1, n_in, n_lt, n_le, n_eq, Bool.not_eq_false, Bool.not_eq_true, Decidable.not_not, true_and])
    exact second M1 f1 b1
  · intro k M1 hk ⟨f1, b1⟩ next
    refine r_back_2 ?_
    (try simp +decide (disch := omega) only [n_lit2, n_add, n_mul, n_tn, n_inT, n_ltT, n_ltF, n_leT, n_leF, n_eqT, n_eqF, n_eqm, n_meq, n_div, n_rem, nb_0, nb_1, nr_b, true_and, and_true, eq_self, Decidable.not_not, not_false_eq_true, not_true_eq_false, false_implies, true_implies, implies_true, Option.toList_some, Option.toList_none, List.cons_append, List.nil_append]); (try simp (disch := omega) only [lc_eq, lc_le, lc_lt, lc_ge, lc_gt, mb_t1, mb_t0, bI_0, bI_1, n_in, n_lt, n_le, n_eq, Bool.not_eq_false, Bool.not_eq_true, Decidable.not_not, true_and])
    refine next _ ⟨fr_trans f1 (fr_up (lo := 56) (hi := 57) M1 _ _ (by omega)) (by omega) (by omega), fun i hi => ?_⟩
    rw [m_up]
    by_cases e : i = k
    · rw [if_pos ⟨rfl, e⟩, (f1 67 (by omega)).1, e]
    · rw [if_neg (by omega)]; exact b1 i (by omega)
/-- a level of the copies -/
abbrev MK (l : Nat) (s : GS) (M : mw) : Prop := MGv s (fun i => M.1 67 (110 * l + i)) (fun i => M.2 68 (16 * l + i))
theorem MK_fr {lo hi l : Nat} {M M' : mw} {s : GS} (h : fr lo hi M M') (h1 : 69 ≤ lo ∨ hi < 67) (g : MK l s M) : MK l s M' := by
  show MGv s (fun i => M'.1 67 (110 * l + i)) (fun i => M'.2 68 (16 * l + i))
  rw [(h 67 (by omega)).1, (h 68 (by omega)).2]; exact g
theorem off_lv {n j l i : Nat} (h : j ≠ l) (hi : i < n) : n * j + i < n * l ∨ n * l + n ≤ n * j + i := by
  rcases Nat.lt_or_gt_of_ne h with h | h
  · have : n * (j + 1) ≤ n * l := Nat.mul_le_mul_left n h
    rw [Nat.mul_add, Nat.mul_one] at this
    exact Or.inl (by omega)
  · have : n * (l + 1) ≤ n * j := Nat.mul_le_mul_left n h
    rw [Nat.mul_add, Nat.mul_one] at this
    exact Or.inr (by omega)
theorem kk_keeps {Q : Option Value → mw → Prop} {M : mw} {l : Nat} {s : GS} (hl : l ≤ 4) (h16 : (gO s).length ≤ 16) (hG : MG s M)
    (q : ∀ M', fr 67 68 M M' → MK l s M' → (∀ j t, j ≠ l → (gO t).length ≤ 16 → MK j t M → MK j t M') → Q none M') : V_keeps [.ref 0, .int (nI l)] M Q :=
  s_keeps hl (fun M' f a b c d => q M' f (MGv_cong hG h16 a c) (fun j t hj ht g => MGv_cong g ht (fun i hi => b _ (off_lv hj hi)) (fun i hi => d _ (off_lv hj hi))))
theorem kk_back {Q : Option Value → mw → Prop} {M : mw} {l : Nat} {s : GS} (hl : l ≤ 4) (h16 : (gO s).length ≤ 16) (hK : MK l s M)
    (q : ∀ M', fr 56 57 M M' → MG s M' → Q none M') : V_back [.ref 0, .int (nI l)] M Q :=
  s_back hl (fun M' f a b => q M' f (MGv_cong hK h16 a b))
/-! days that can be undone -/
abbrev MR (j : Nat) (s : GS) (M : mw) : Prop := MGv s (fun i => M.1 69 (110 * j + i)) (fun i => M.2 70 (16 * j + i))
def MH (H : List GS) (M : mw) : Prop := H.length ≤ 40 ∧ M.1 71 0 = nI H.length ∧ ∃ nw, nw < 40 ∧ M.1 72 0 = nI nw ∧ ∀ k s, H[k]? = some s → (gO s).length ≤ 16 ∧ MR ((nw + 40 - k) % 40) s M
theorem MH_fr {lo hi : Nat} {M M' : mw} {H : List GS} (h : fr lo hi M M') (h1 : 73 ≤ lo ∨ hi < 69) (g : MH H M) : MH H M' := by
  obtain ⟨a, b, nw, c, d, e⟩ := g
  refine ⟨a, by rw [(h 71 (by omega)).1]; exact b, nw, c, by rw [(h 72 (by omega)).1]; exact d, fun k s hk => ⟨(e k s hk).1, ?_⟩⟩
  show MGv s (fun i => M'.1 69 (110 * _ + i)) (fun i => M'.2 70 (16 * _ + i))
  rw [(h 69 (by omega)).1, (h 70 (by omega)).2]; exact (e k s hk).2
theorem s_keepsDay {Q : Option Value → mw → Prop} {M : mw} {s : GS} {H : List GS} (h16 : (gO s).length ≤ 16) (hG : MG s M) (hH : MH H M)
    (q : ∀ M', fr 69 72 M M' → MH ((s :: H).take 40) M' → Q none M') : V_keepsDay [.ref 0] M Q := by
  obtain ⟨l40, u, nw, hn, e72, hr⟩ := hH
  have hN : (nw + 1) % 40 < 40 := Nat.mod_lt _ (by omega)
  have step0 : bs_irem (M.1 72 0 + 1) 40 = nI ((nw + 1) % 40) := by rw [e72]; (try simp +decide (disch := omega) only [n_lit2, n_add, n_mul, n_tn, n_inT, n_ltT, n_ltF, n_leT, n_leF, n_eqT, n_eqF, n_eqm, n_meq, n_div, n_rem, nb_0, nb_1, nr_b, true_and, and_true, eq_self, Decidable.not_not, not_false_eq_true, not_true_eq_false, false_implies, true_implies, implies_true, Option.toList_some, Option.toList_none, List.cons_append, List.nil_append]); (try simp (disch := omega) only [lc_eq, lc_le, lc_lt, lc_ge, lc_gt, mb_t1, mb_t0, bI_0, bI_1, n_in, n_lt, n_le, n_eq, Bool.not_eq_false, Bool.not_eq_true, Decidable.not_not, true_and])
  have fin : ∀ M0 : mw, fr 69 72 M M0 → M0.1 72 0 = nI ((nw + 1) % 40) → M0.1 71 = M.1 71 → (∀ i, i < 110 → M0.1 69 (110 * ((nw + 1) % 40) + i) = M.1 56 i) → (∀ j, (j < 110 * ((nw + 1) % 40) ∨ 110 * ((nw + 1) % 40) + 110 ≤ j) → M0.1 69 j = M.1 69 j) →
      (∀ i, i < 16 → M0.2 70 (16 * ((nw + 1) % 40) + i) = M.2 57 i) → (∀ j, (j < 16 * ((nw + 1) % 40) ∨ 16 * ((nw + 1) % 40) + 16 ≤ j) → M0.2 70 j = M.2 70 j) →
      ∀ v, v = nI (min 40 (H.length + 1)) → MH ((s :: H).take 40) (mM_up M0 71 0 v) := by
    intro M0 f0 a0 u0 b0 c0 d0 e0 v hv
    refine ⟨by rw [List.length_take]; omega, by rw [m_up, if_pos ⟨rfl, rfl⟩, hv, List.length_take, List.length_cons], (nw + 1) % 40, hN, by rw [m_up, if_neg (by omega)]; exact a0, fun k t hk => ?_⟩
    have hk40 : k < 40 := by
      rcases Nat.lt_or_ge k 40 with h | h
      · exact h
      · rw [List.getElem?_eq_none (by rw [List.length_take]; omega)] at hk; cases hk
    rw [List.getElem?_take_of_lt hk40] at hk
    have g0 : ∀ j, j < 40 → (mM_up M0 71 0 v).1 69 = M0.1 69 := fun j _ => by funext i; rw [m_up, if_neg (by omega)]
    cases k with
    | zero =>
      simp at hk
      subst hk
      refine ⟨h16, ?_⟩
      have e1 : ((nw + 1) % 40 + 40 - 0) % 40 = (nw + 1) % 40 := by omega
      rw [e1]
      refine MGv_cong hG h16 (fun i hi => ?_) d0
      rw [g0 0 (by omega)]; exact b0 i hi
    | succ k =>
      simp at hk
      obtain ⟨r1, r2⟩ := hr k t hk
      refine ⟨r1, ?_⟩
      have e1 : ((nw + 1) % 40 + 40 - (k + 1)) % 40 = (nw + 40 - k) % 40 := by omega
      have e2 : (nw + 40 - k) % 40 ≠ (nw + 1) % 40 := by omega
      rw [e1]
      refine MGv_cong r2 r1 (fun i hi => ?_) (fun i hi => ?_)
      · rw [g0 0 (by omega)]
        refine c0 _ ?_
        rcases Nat.lt_or_gt_of_ne e2 with h | h
        · exact Or.inl (by omega)
        · exact Or.inr (by omega)
      · refine e0 _ ?_
        rcases Nat.lt_or_gt_of_ne e2 with h | h
        · exact Or.inl (by omega)
        · exact Or.inr (by omega)
  generalize (nw + 1) % 40 = w at *
  have second : ∀ M0 : mw, fr 69 72 M M0 → M0.1 72 0 = nI w → M0.1 71 = M.1 71 → M0.2 70 = M.2 70 → (∀ i, i < 110 → M0.1 69 (110 * w + i) = M.1 56 i) → (∀ j, (j < 110 * w ∨ 110 * w + 110 ≤ j) → M0.1 69 j = M.1 69 j) → T_keepsDay Q 49 [some (.ref 0), some (.int (nI 0))] [] M0 := by
    intro M0 f0 a0 u0 p0 b0 c0
    refine upTo 16 (fun k (M1 : mw) => fr 69 72 M M1 ∧ M1.1 = M0.1 ∧ (∀ i, i < k → M1.2 70 (16 * w + i) = M.2 57 i) ∧ ∀ j, (j < 16 * w ∨ 16 * w + k ≤ j) → M1.2 70 j = M.2 70 j)
      (fun k M1 => T_keepsDay Q 49 [some (.ref 0), some (.int (nI k))] [] M1) ?_ ?_ 0 M0 (by omega) ⟨f0, rfl, fun i hi => by omega, fun j _ => by rw [p0]⟩
    · intro M1 ⟨f1, a1, d1, e1⟩
      refine r_keepsDay_49 ?_
      have u1 : M1.1 71 0 = nI H.length := by rw [a1, u0]; exact u
      have u2 : M1.1 71 = M.1 71 := by rw [a1]; exact u0
      have fn := fin M1 f1 (by rw [a1]; exact a0) u2 (by rw [a1]; exact b0) (by rw [a1]; exact c0) d1 e1
      (try simp +decide (disch := omega) only [n_lit2, n_add, n_mul, n_tn, n_inT, n_ltT, n_ltF, n_leT, n_leF, n_eqT, n_eqF, n_eqm, n_meq, n_div, n_rem, nb_0, nb_1, nr_b, true_and, and_true, eq_self, Decidable.not_not, not_false_eq_true, not_true_eq_false, false_implies, true_implies, implies_true, Option.toList_some, Option.toList_none, List.cons_append, List.nil_append, u1]); (try simp (disch := omega) only [lc_eq, lc_le, lc_lt, lc_ge, lc_gt, mb_t1, mb_t0, bI_0, bI_1, n_in, n_lt, n_le, n_eq, Bool.not_eq_false, Bool.not_eq_true, Decidable.not_not, true_and, u1])
      refine ⟨fun c => ?_, fun c => ?_⟩
      · have e : M1 = mM_up M1 71 0 (nI (min 40 (H.length + 1))) := by
          refine Prod.ext ?_ rfl
          funext k i
          rw [m_up]
          split
          · rename_i h; rw [h.1, h.2, u1]; congr 1; omega
          · rfl
        rw [e]
        refine q _ ?_ (fn _ rfl)
        rw [← e]; exact f1
      · refine q _ (fr_trans f1 (fr_up (lo := 69) (hi := 72) M1 _ _ (by omega)) (by omega) (by omega)) (fn _ (by congr 1; omega))
    · intro k M1 hk ⟨f1, a1, d1, e1⟩ next
      refine r_keepsDay_49 ?_
      have w1 : M1.1 72 0 = nI w := by rw [a1]; exact a0
      (try simp +decide (disch := omega) only [n_lit2, n_add, n_mul, n_tn, n_inT, n_ltT, n_ltF, n_leT, n_leF, n_eqT, n_eqF, n_eqm, n_meq, n_div, n_rem, nb_0, nb_1, nr_b, true_and, and_true, eq_self, Decidable.not_not, not_false_eq_true, not_true_eq_false, false_implies, true_implies, implies_true, Option.toList_some, Option.toList_none, List.cons_append, List.nil_append, w1]); (try simp (disch := omega) only [lc_eq, lc_le, lc_lt, lc_ge, lc_gt, mb_t1, mb_t0, bI_0, bI_1, n_in, n_lt, n_le, n_eq, Bool.not_eq_false, Bool.not_eq_true, Decidable.not_not, true_and, w1])
      refine next _ ⟨fr_trans f1 (fr_upl (lo := 69) (hi := 72) M1 _ _ (by omega)) (by omega) (by omega), a1, fun i hi => ?_, fun j hj => ?_⟩
      · rw [m_upl]
        by_cases e : i = k
        · rw [if_pos ⟨rfl, by rw [e]⟩, (f1 57 (by omega)).2, e]
        · rw [if_neg (by omega)]; exact d1 i (by omega)
      · rw [m_upl, if_neg (by omega)]; exact e1 j (by omega)
  refine e_keepsDay (r_keepsDay_0 ⟨by decide, ?_⟩)
  rw [step0]
  refine upTo 110 (fun k (M1 : mw) => fr 69 72 M M1 ∧ M1.1 72 0 = nI w ∧ M1.1 71 = M.1 71 ∧ M1.2 70 = M.2 70 ∧ (∀ i, i < k → M1.1 69 (110 * w + i) = M.1 56 i) ∧ ∀ j, (j < 110 * w ∨ 110 * w + k ≤ j) → M1.1 69 j = M.1 69 j)
    (fun k M1 => T_keepsDay Q 15 [some (.ref 0), some (.int (nI k))] [] M1) ?_ ?_ 0 _ (by omega) ⟨fr_up M _ _ (by omega), by rw [m_up, if_pos ⟨rfl, rfl⟩], by funext i; rw [m_up, if_neg (by omega)], rfl, fun i hi => by omega, fun j _ => by rw [m_up, if_neg (by omega)]⟩
  · intro M1 ⟨f1, a1, u1, p1, b1, c1⟩
    refine r_keepsDay_15 ?_
    (try simp +decide (disch := omega) only [n_lit2, n_add, n_mul, n_tn, n_inT, n_ltT, n_ltF, n_leT, n_leF, n_eqT, n_eqF, n_eqm, n_meq, n_div, n_rem, nb_0, nb_1, nr_b, true_and, and_true, eq_self, Decidable.not_not, not_false_eq_true, not_true_eq_false, false_implies, true_implies, implies_true, Option.toList_some, Option.toList_none, List.cons_append, List.nil_append]); (try simp (disch := omega) only [lc_eq, lc_le, lc_lt, lc_ge, lc_gt, mb_t1, mb_t0, bI_0, bI_1, n_in, n_lt, n_le, n_eq, Bool.not_eq_false, Bool.not_eq_true, Decidable.not_not, true_and])
    exact second M1 f1 a1 u1 p1 b1 c1
  · intro k M1 hk ⟨f1, a1, u1, p1, b1, c1⟩ next
    refine r_keepsDay_15 ?_
    (try simp +decide (disch := omega) only [n_lit2, n_add, n_mul, n_tn, n_inT, n_ltT, n_ltF, n_leT, n_leF, n_eqT, n_eqF, n_eqm, n_meq, n_div, n_rem, nb_0, nb_1, nr_b, true_and, and_true, eq_self, Decidable.not_not, not_false_eq_true, not_true_eq_false, false_implies, true_implies, implies_true, Option.toList_some, Option.toList_none, List.cons_append, List.nil_append, a1]); (try simp (disch := omega) only [lc_eq, lc_le, lc_lt, lc_ge, lc_gt, mb_t1, mb_t0, bI_0, bI_1, n_in, n_lt, n_le, n_eq, Bool.not_eq_false, Bool.not_eq_true, Decidable.not_not, true_and, a1])
    refine next _ ⟨fr_trans f1 (fr_up (lo := 69) (hi := 72) M1 _ _ (by omega)) (by omega) (by omega), by rw [m_up, if_neg (by omega)]; exact a1, by rw [← u1]; funext i; rw [m_up, if_neg (by omega)], p1, fun i hi => ?_, fun j hj => ?_⟩
    · rw [m_up]
      by_cases e : i = k
      · rw [if_pos ⟨rfl, by rw [e]⟩, (f1 56 (by omega)).1, e]
      · rw [if_neg (by omega)]; exact b1 i (by omega)
    · rw [m_up, if_neg (by omega)]; exact c1 j (by omega)
theorem s_undo {Q : Option Value → mw → Prop} {M : mw} {H : List GS} (hH : MH H M)
    (q0 : H = [] → Q (some (.int (nI 0))) M) (q1 : ∀ s R, H = s :: R → ∀ M', (∀ k, (k < 56 ∨ 57 < k) → k ≠ 71 → k ≠ 72 → M'.1 k = M.1 k ∧ M'.2 k = M.2 k) → MG s M' → MH R M' → Q (some (.int (nI 1))) M') : V_undo [.ref 0] M Q := by
  obtain ⟨l40, u, nw, hn, e72, hr⟩ := hH
  refine e_undo (r_undo_0 ?_)
  cases H with
  | nil =>
    have u' : M.1 71 0 = nI 0 := u
    (try simp +decide (disch := omega) only [n_lit2, n_add, n_mul, n_tn, n_inT, n_ltT, n_ltF, n_leT, n_leF, n_eqT, n_eqF, n_eqm, n_meq, n_div, n_rem, nb_0, nb_1, nr_b, true_and, and_true, eq_self, Decidable.not_not, not_false_eq_true, not_true_eq_false, false_implies, true_implies, implies_true, Option.toList_some, Option.toList_none, List.cons_append, List.nil_append, u']); (try simp (disch := omega) only [lc_eq, lc_le, lc_lt, lc_ge, lc_gt, mb_t1, mb_t0, bI_0, bI_1, n_in, n_lt, n_le, n_eq, Bool.not_eq_false, Bool.not_eq_true, Decidable.not_not, true_and, u'])
    exact q0 rfl
  | cons s R =>
    rw [List.length_cons] at u l40
    obtain ⟨h16, hs⟩ := hr 0 s rfl
    have e0 : (nw + 40 - 0) % 40 = nw := by omega
    rw [e0] at hs
    (try simp +decide (disch := omega) only [n_lit2, n_add, n_mul, n_tn, n_inT, n_ltT, n_ltF, n_leT, n_leF, n_eqT, n_eqF, n_eqm, n_meq, n_div, n_rem, nb_0, nb_1, nr_b, true_and, and_true, eq_self, Decidable.not_not, not_false_eq_true, not_true_eq_false, false_implies, true_implies, implies_true, Option.toList_some, Option.toList_none, List.cons_append, List.nil_append, u]); (try simp (disch := omega) only [lc_eq, lc_le, lc_lt, lc_ge, lc_gt, mb_t1, mb_t0, bI_0, bI_1, n_in, n_lt, n_le, n_eq, Bool.not_eq_false, Bool.not_eq_true, Decidable.not_not, true_and, u])
    have second : ∀ M0 : mw, fr 56 57 M M0 → (∀ i, i < 110 → M0.1 56 i = M.1 69 (110 * nw + i)) → T_undo Q 45 [some (.ref 0), some (.int (nI 0))] [] M0 := by
      intro M0 f0 b0
      refine upTo 16 (fun k (M1 : mw) => fr 56 57 M M1 ∧ M1.1 56 = M0.1 56 ∧ ∀ i, i < k → M1.2 57 i = M.2 70 (16 * nw + i))
        (fun k M1 => T_undo Q 45 [some (.ref 0), some (.int (nI k))] [] M1) ?_ ?_ 0 M0 (by omega) ⟨f0, rfl, fun i hi => by omega⟩
      · intro M1 ⟨f1, a1, d1⟩
        refine r_undo_45 ?_
        have w1 : M1.1 72 0 = nI nw := by rw [(f1 72 (by omega)).1]; exact e72
        have u1 : M1.1 71 0 = nI (R.length + 1) := by rw [(f1 71 (by omega)).1]; exact u
        have e1 : nI nw + nI 40 - nI 1 = nI (nw + 39) := by rw [n_add, n_sub (by omega)]; rfl
        have e2 : nI (R.length + 1) - nI 1 = nI R.length := n_sub (a := R.length + 1) (b := 1) (by omega)
        (try simp +decide (disch := omega) only [n_lit2, n_add, n_mul, n_tn, n_inT, n_ltT, n_ltF, n_leT, n_leF, n_eqT, n_eqF, n_eqm, n_meq, n_div, n_rem, nb_0, nb_1, nr_b, true_and, and_true, eq_self, Decidable.not_not, not_false_eq_true, not_true_eq_false, false_implies, true_implies, implies_true, Option.toList_some, Option.toList_none, List.cons_append, List.nil_append, w1, e1]); (try simp (disch := omega) only [lc_eq, lc_le, lc_lt, lc_ge, lc_gt, mb_t1, mb_t0, bI_0, bI_1, n_in, n_lt, n_le, n_eq, Bool.not_eq_false, Bool.not_eq_true, Decidable.not_not, true_and, w1, e1])
        rw [m_up, if_neg (by omega), u1]
        (try simp +decide (disch := omega) only [n_lit2, n_add, n_mul, n_tn, n_inT, n_ltT, n_ltF, n_leT, n_leF, n_eqT, n_eqF, n_eqm, n_meq, n_div, n_rem, nb_0, nb_1, nr_b, true_and, and_true, eq_self, Decidable.not_not, not_false_eq_true, not_true_eq_false, false_implies, true_implies, implies_true, Option.toList_some, Option.toList_none, List.cons_append, List.nil_append, e2, n_sub]); (try simp (disch := omega) only [lc_eq, lc_le, lc_lt, lc_ge, lc_gt, mb_t1, mb_t0, bI_0, bI_1, n_in, n_lt, n_le, n_eq, Bool.not_eq_false, Bool.not_eq_true, Decidable.not_not, true_and, e2, n_sub])
        refine q1 s R rfl _ (fun k hk h71 h72 => ?_) ?_ ?_
        · have a := f1 k hk
          refine ⟨?_, a.2⟩
          rw [← a.1]; funext i
          rw [m_up, if_neg (by omega), m_up, if_neg (by omega)]
        · refine MGv_cong hs h16 (fun i hi => ?_) d1
          rw [m_up, if_neg (by omega), m_up, if_neg (by omega), a1]; exact b0 i hi
        · refine ⟨by omega, by rw [m_up, if_pos ⟨rfl, rfl⟩], (nw + 39) % 40, Nat.mod_lt _ (by omega), by rw [m_up, if_neg (by omega), m_up, if_pos ⟨rfl, rfl⟩, show nw + 40 - 1 = nw + 39 from by omega], fun k t hk => ?_⟩
          obtain ⟨r1, r2⟩ := hr (k + 1) t (by simp; exact hk)
          refine ⟨r1, ?_⟩
          have hk2 : k < R.length := by
            rcases Nat.lt_or_ge k R.length with h | h
            · exact h
            · rw [List.getElem?_eq_none h] at hk; cases hk
          have e3 : ((nw + 39) % 40 + 40 - k) % 40 = (nw + 40 - (k + 1)) % 40 := by omega
          rw [e3]
          refine MGv_cong r2 r1 (fun i hi => ?_) (fun i hi => ?_)
          · rw [m_up, if_neg (by omega), m_up, if_neg (by omega), (f1 69 (by omega)).1]
          · rw [m_up2, m_up2, (f1 70 (by omega)).2]
      · intro k M1 hk ⟨f1, a1, d1⟩ next
        refine r_undo_45 ?_
        have w1 : M1.1 72 0 = nI nw := by rw [(f1 72 (by omega)).1]; exact e72
        (try simp +decide (disch := omega) only [n_lit2, n_add, n_mul, n_tn, n_inT, n_ltT, n_ltF, n_leT, n_leF, n_eqT, n_eqF, n_eqm, n_meq, n_div, n_rem, nb_0, nb_1, nr_b, true_and, and_true, eq_self, Decidable.not_not, not_false_eq_true, not_true_eq_false, false_implies, true_implies, implies_true, Option.toList_some, Option.toList_none, List.cons_append, List.nil_append, w1]); (try simp (disch := omega) only [lc_eq, lc_le, lc_lt, lc_ge, lc_gt, mb_t1, mb_t0, bI_0, bI_1, n_in, n_lt, n_le, n_eq, Bool.not_eq_false, Bool.not_eq_true, Decidable.not_not, true_and, w1])
        refine next _ ⟨fr_trans f1 (fr_upl (lo := 56) (hi := 57) M1 _ _ (by omega)) (by omega) (by omega), a1, fun i hi => ?_⟩
        rw [m_upl]
        by_cases e : i = k
        · rw [if_pos ⟨rfl, e⟩, (f1 70 (by omega)).2, e]
        · rw [if_neg (by omega)]; exact d1 i (by omega)
    refine upTo 110 (fun k (M1 : mw) => fr 56 57 M M1 ∧ ∀ i, i < k → M1.1 56 i = M.1 69 (110 * nw + i))
      (fun k M1 => T_undo Q 11 [some (.ref 0), some (.int (nI k))] [] M1) ?_ ?_ 0 M (by omega) ⟨fr_refl _ _ _, fun i hi => by omega⟩
    · intro M1 ⟨f1, b1⟩
      refine r_undo_11 ?_
      (try simp +decide (disch := omega) only [n_lit2, n_add, n_mul, n_tn, n_inT, n_ltT, n_ltF, n_leT, n_leF, n_eqT, n_eqF, n_eqm, n_meq, n_div, n_rem, nb_0, nb_1, nr_b, true_and, and_true, eq_self, Decidable.not_not, not_false_eq_true, not_true_eq_false, false_implies, true_implies, implies_true, Option.toList_some, Option.toList_none, List.cons_append, List.nil_append]); (try simp (disch := omega) only [lc_eq, lc_le, lc_lt, lc_ge, lc_gt, mb_t1, mb_t0, bI_0, bI_1, n_in, n_lt, n_le, n_eq, Bool.not_eq_false, Bool.not_eq_true, Decidable.not_not, true_and])
      exact second M1 f1 b1
    · intro k M1 hk ⟨f1, b1⟩ next
      refine r_undo_11 ?_
      have w1 : M1.1 72 0 = nI nw := by rw [(f1 72 (by omega)).1]; exact e72
      (try simp +decide (disch := omega) only [n_lit2, n_add, n_mul, n_tn, n_inT, n_ltT, n_ltF, n_leT, n_leF, n_eqT, n_eqF, n_eqm, n_meq, n_div, n_rem, nb_0, nb_1, nr_b, true_and, and_true, eq_self, Decidable.not_not, not_false_eq_true, not_true_eq_false, false_implies, true_implies, implies_true, Option.toList_some, Option.toList_none, List.cons_append, List.nil_append, w1]); (try simp (disch := omega) only [lc_eq, lc_le, lc_lt, lc_ge, lc_gt, mb_t1, mb_t0, bI_0, bI_1, n_in, n_lt, n_le, n_eq, Bool.not_eq_false, Bool.not_eq_true, Decidable.not_not, true_and, w1])
      refine next _ ⟨fr_trans f1 (fr_up (lo := 56) (hi := 57) M1 _ _ (by omega)) (by omega) (by omega), fun i hi => ?_⟩
      rw [m_up]
      by_cases e : i = k
      · rw [if_pos ⟨rfl, e⟩, (f1 69 (by omega)).1, e]
      · rw [if_neg (by omega)]; exact b1 i (by omega)
