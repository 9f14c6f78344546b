/-! what is read off a state -/
theorem bN36 {B : Bd} (h : bOk B ∨ bN B = 0) : bN B ≤ 36 := by
  rcases h with h | h
  · exact h.2.2.2.2.1
  · omega
theorem bV99 {B : Bd} (h : bOk B ∨ bN B = 0) : ∀ p, p < bN B → bV B p ≤ 99 := by
  rcases h with h | h
  · exact h.2.2.2.2.2.2.2
  · intro p hp; omega
def smP (f : Nat → Nat) : Nat → Nat
  | 0 => 0
  | k + 1 => smP f k + f k
theorem smP_le {f : Nat → Nat} {c : Nat} (h : ∀ p, f p ≤ c) (k : Nat) : smP f k ≤ c * k := by
  induction k with
  | zero => exact Nat.zero_le _
  | succ k ih => unfold smP; have := h k; rw [Nat.mul_add, Nat.mul_one]; omega
theorem smP_cong {f g : Nat → Nat} {k : Nat} (h : ∀ p, p < k → f p = g p) : smP f k = smP g k := by
  induction k with
  | zero => rfl
  | succ k ih => unfold smP; rw [ih (fun p hp => h p (by omega)), h k (by omega)]
/-- a stone of a side (or any), of a kind (or any) -/
def stF (st : Nat → Nat) (sd kd : Option Nat) (p : Nat) : Bool := decide (0 < st p) && (match sd with | none => true | some x => decide (st p % 2 = x)) && (match kd with | none => true | some x => decide (kdG st p = x))
def stonesG (B : Bd) (st : Nat → Nat) (sd kd : Option Nat) : Nat := smP (fun p => if stF st sd kd p = true then 1 else 0) (bN B)
theorem stonesG_le (B : Bd) (st : Nat → Nat) (sd kd : Option Nat) : stonesG B st sd kd ≤ bN B := by
  have := smP_le (f := fun p => if stF st sd kd p = true then 1 else 0) (c := 1) (fun p => by split <;> omega) (bN B)
  unfold stonesG; omega
theorem s_stonesOf {Q : Option Value → mw → Prop} {M : mw} {B : Bd} {st : Nat → Nat} (hN : bN B ≤ 36) (hM : MB B M) (hS : MS st M) (h12 : ∀ p, st p = 0 ∨ 2 ≤ st p ∧ st p < 12) (sd kd : Option Nat) (hsd : ∀ x, sd = some x → x < 2) (hkd : ∀ x, kd = some x → x < 5)
    (q : Q (some (.int (nI (stonesG B st sd kd)))) M) : V_stonesOf [.ref 0, .int (plI sd), .int (plI kd)] M Q := by
  refine e_stonesOf (r_stonesOf_0 ?_)
  refine upTo (bN B) (fun _ (_ : Unit) => True)
    (fun p _ => T_stonesOf Q 5 [some (.ref 0), some (.int (plI sd)), some (.int (plI kd)), some (.int (nI (smP (fun p => if stF st sd kd p = true then 1 else 0) p))), some (.int (nI p))] [] M) ?_ ?_ 0 () (by omega) trivial
  · intro _ _
    refine r_stonesOf_5 (s_places hM (r_stonesOf_11 ?_))
    (try simp +decide (disch := omega) only [n_lit2, n_add, n_mul, n_tn, n_inT, n_ltT, n_ltF, n_leT, n_leF, n_eqT, n_eqF, n_eqm, n_meq, n_div, n_rem, nb_0, nb_1, nr_b, true_and, and_true, eq_self, Decidable.not_not, not_false_eq_true, not_true_eq_false, false_implies, true_implies, implies_true, Option.toList_some, Option.toList_none, List.cons_append, List.nil_append]); (try simp (disch := omega) only [lc_eq, lc_le, lc_lt, lc_ge, lc_gt, mb_t1, mb_t0, bI_0, bI_1, n_in, n_lt, n_le, n_eq, Bool.not_eq_false, Bool.not_eq_true, Decidable.not_not, true_and])
    exact q
  · intro p _ hp _ next
    have r := hS p (by omega)
    have h1 := h12 p
    have step : ∀ b : Bool, stF st sd kd p = b → T_stonesOf Q 5 [some (.ref 0), some (.int (plI sd)), some (.int (plI kd)), some (.int (nI (smP (fun p => if stF st sd kd p = true then 1 else 0) p + (if b = true then 1 else 0)))), some (.int (nI (p + 1)))] [] M := by
      intro b hb
      have := next () trivial
      unfold smP at this
      rw [hb] at this
      exact this
    have yes := step true
    have no := step false
    simp only [Bool.false_eq_true, if_true, if_false, Nat.add_zero] at yes no
    have hkk : stF st sd none p = true → (kd = none → T_stonesOf Q 5 [some (.ref 0), some (.int (plI sd)), some (.int (plI kd)), some (.int (nI (smP (fun p => if stF st sd kd p = true then 1 else 0) p + 1))), some (.int (nI (p + 1)))] [] M) ∧ (kd ≠ none → 2 ≤ st p → V_kindAt [.ref 0, .int (nI p)] M (fun v M1 => T_stonesOf Q 53 [some (.ref 0), some (.int (plI sd)), some (.int (plI kd)), some (.int (nI (smP (fun p => if stF st sd kd p = true then 1 else 0) p))), some (.int (nI p))] (v.toList ++ []) M1)) := by
      intro hn
      refine ⟨fun z => yes (by rw [z]; exact hn), fun z h2 => ?_⟩
      refine s_kindAt hS (fun p => by have := h12 p; omega) (by omega) h2 (r_stonesOf_53 ?_)
      cases kd with
      | none => exact absurd rfl z
      | some x =>
        have hx := hkd x rfl
        have ek : plI (some x) = nI x := rfl
        have kdl : kdG st p < 5 := by unfold kdG; omega
        rw [ek] at yes no ⊢
        (try simp +decide (disch := omega) only [n_lit2, n_add, n_mul, n_tn, n_inT, n_ltT, n_ltF, n_leT, n_leF, n_eqT, n_eqF, n_eqm, n_meq, n_div, n_rem, nb_0, nb_1, nr_b, true_and, and_true, eq_self, Decidable.not_not, not_false_eq_true, not_true_eq_false, false_implies, true_implies, implies_true, Option.toList_some, Option.toList_none, List.cons_append, List.nil_append]); (try simp (disch := omega) only [lc_eq, lc_le, lc_lt, lc_ge, lc_gt, mb_t1, mb_t0, bI_0, bI_1, n_in, n_lt, n_le, n_eq, Bool.not_eq_false, Bool.not_eq_true, Decidable.not_not, true_and])
        unfold stF at hn yes no
        simp only [Bool.and_true] at hn
        rw [hn, Bool.true_and] at yes no
        refine ⟨fun c => no (decide_eq_false c), fun c => yes (decide_eq_true c)⟩
    refine r_stonesOf_5 (s_places hM (r_stonesOf_11 ?_))
    by_cases z : st p = 0
    · rw [z] at r
      (try simp +decide (disch := omega) only [n_lit2, n_add, n_mul, n_tn, n_inT, n_ltT, n_ltF, n_leT, n_leF, n_eqT, n_eqF, n_eqm, n_meq, n_div, n_rem, nb_0, nb_1, nr_b, true_and, and_true, eq_self, Decidable.not_not, not_false_eq_true, not_true_eq_false, false_implies, true_implies, implies_true, Option.toList_some, Option.toList_none, List.cons_append, List.nil_append, r]); (try simp (disch := omega) only [lc_eq, lc_le, lc_lt, lc_ge, lc_gt, mb_t1, mb_t0, bI_0, bI_1, n_in, n_lt, n_le, n_eq, Bool.not_eq_false, Bool.not_eq_true, Decidable.not_not, true_and, r])
      exact no (by unfold stF; rw [z]; simp)
    · have h2 : 2 ≤ st p := by omega
      have pos : decide (0 < st p) = true := decide_eq_true (by omega)
      cases sd with
      | none =>
        have es : plI none = -nI 1 := rfl
        rw [es] at hkk ⊢
        have hk2 := hkk (by unfold stF; rw [pos]; rfl)
        cases kd with
        | none =>
          rw [es] at hk2 ⊢
          (try simp +decide (disch := omega) only [n_lit2, n_add, n_mul, n_tn, n_inT, n_ltT, n_ltF, n_leT, n_leF, n_eqT, n_eqF, n_eqm, n_meq, n_div, n_rem, nb_0, nb_1, nr_b, true_and, and_true, eq_self, Decidable.not_not, not_false_eq_true, not_true_eq_false, false_implies, true_implies, implies_true, Option.toList_some, Option.toList_none, List.cons_append, List.nil_append, r]); (try simp (disch := omega) only [lc_eq, lc_le, lc_lt, lc_ge, lc_gt, mb_t1, mb_t0, bI_0, bI_1, n_in, n_lt, n_le, n_eq, Bool.not_eq_false, Bool.not_eq_true, Decidable.not_not, true_and, r])
          exact hk2.1 rfl
        | some x =>
          have hx := hkd x rfl
          have ek : plI (some x) = nI x := rfl
          rw [ek] at hk2 ⊢
          (try simp +decide (disch := omega) only [n_lit2, n_add, n_mul, n_tn, n_inT, n_ltT, n_ltF, n_leT, n_leF, n_eqT, n_eqF, n_eqm, n_meq, n_div, n_rem, nb_0, nb_1, nr_b, true_and, and_true, eq_self, Decidable.not_not, not_false_eq_true, not_true_eq_false, false_implies, true_implies, implies_true, Option.toList_some, Option.toList_none, List.cons_append, List.nil_append, r]); (try simp (disch := omega) only [lc_eq, lc_le, lc_lt, lc_ge, lc_gt, mb_t1, mb_t0, bI_0, bI_1, n_in, n_lt, n_le, n_eq, Bool.not_eq_false, Bool.not_eq_true, Decidable.not_not, true_and, r])
          exact hk2.2 (by simp) h2
      | some y =>
        have hy := hsd y rfl
        have es : plI (some y) = nI y := rfl
        rw [es] at hkk no ⊢
        cases kd with
        | none =>
          have ek : plI none = -nI 1 := rfl
          rw [ek] at hkk no ⊢
          (try simp +decide (disch := omega) only [n_lit2, n_add, n_mul, n_tn, n_inT, n_ltT, n_ltF, n_leT, n_leF, n_eqT, n_eqF, n_eqm, n_meq, n_div, n_rem, nb_0, nb_1, nr_b, true_and, and_true, eq_self, Decidable.not_not, not_false_eq_true, not_true_eq_false, false_implies, true_implies, implies_true, Option.toList_some, Option.toList_none, List.cons_append, List.nil_append, r]); (try simp (disch := omega) only [lc_eq, lc_le, lc_lt, lc_ge, lc_gt, mb_t1, mb_t0, bI_0, bI_1, n_in, n_lt, n_le, n_eq, Bool.not_eq_false, Bool.not_eq_true, Decidable.not_not, true_and, r])
          refine ⟨fun c => no (by unfold stF; rw [pos]; simp [c]), fun c => ?_⟩
          exact (hkk (by unfold stF; rw [pos]; simp [c])).1 rfl
        | some x =>
          have hx := hkd x rfl
          have ek : plI (some x) = nI x := rfl
          rw [ek] at hkk no ⊢
          (try simp +decide (disch := omega) only [n_lit2, n_add, n_mul, n_tn, n_inT, n_ltT, n_ltF, n_leT, n_leF, n_eqT, n_eqF, n_eqm, n_meq, n_div, n_rem, nb_0, nb_1, nr_b, true_and, and_true, eq_self, Decidable.not_not, not_false_eq_true, not_true_eq_false, false_implies, true_implies, implies_true, Option.toList_some, Option.toList_none, List.cons_append, List.nil_append, r]); (try simp (disch := omega) only [lc_eq, lc_le, lc_lt, lc_ge, lc_gt, mb_t1, mb_t0, bI_0, bI_1, n_in, n_lt, n_le, n_eq, Bool.not_eq_false, Bool.not_eq_true, Decidable.not_not, true_and, r])
          refine ⟨fun c => no (by unfold stF; rw [pos]; simp [c]), fun c => ?_⟩
          exact (hkk (by unfold stF; rw [pos]; simp [c])).2 (by simp) h2
def orL (L : List Int64) : Nat → Int64
  | 0 => 0
  | k + 1 => orL L k ||| L.getD k 0
abbrev owedAll (s : GS) : Int64 := orL (gO s) (gO s).length
theorem s_allOwed {Q : Option Value → mw → Prop} {M : mw} {s : GS} (hG : MG s M) (h16 : (gO s).length ≤ 16) (q : Q (some (.long (owedAll s))) M) : V_allOwed [.ref 0] M Q := by
  refine e_allOwed (r_allOwed_0 ?_)
  refine upTo (gO s).length (fun _ (_ : Unit) => True)
    (fun k _ => ∀ {o2 : Option Value}, T_allOwed Q 4 [some (.ref 0), some (.long (orL (gO s) k)), o2, some (.int (nI k))] [] M) ?_ ?_ 0 () (by omega) trivial
  · intro _ _ o2
    refine r_allOwed_4 ?_
    have r : M.1 56 109 = nI (gO s).length := hG.2.2.2.2.1
    (try simp +decide (disch := omega) only [n_lit2, n_add, n_mul, n_tn, n_inT, n_ltT, n_ltF, n_leT, n_leF, n_eqT, n_eqF, n_eqm, n_meq, n_div, n_rem, nb_0, nb_1, nr_b, true_and, and_true, eq_self, Decidable.not_not, not_false_eq_true, not_true_eq_false, false_implies, true_implies, implies_true, Option.toList_some, Option.toList_none, List.cons_append, List.nil_append, r]); (try simp (disch := omega) only [lc_eq, lc_le, lc_lt, lc_ge, lc_gt, mb_t1, mb_t0, bI_0, bI_1, n_in, n_lt, n_le, n_eq, Bool.not_eq_false, Bool.not_eq_true, Decidable.not_not, true_and, r])
    exact q
  · intro k _ hk _ next o2
    refine r_allOwed_4 ?_
    have r : M.1 56 109 = nI (gO s).length := hG.2.2.2.2.1
    have r2 := lsL_get hG.2.2.2.2.2 hk
    (try simp +decide (disch := omega) only [n_lit2, n_add, n_mul, n_tn, n_inT, n_ltT, n_ltF, n_leT, n_leF, n_eqT, n_eqF, n_eqm, n_meq, n_div, n_rem, nb_0, nb_1, nr_b, true_and, and_true, eq_self, Decidable.not_not, not_false_eq_true, not_true_eq_false, false_implies, true_implies, implies_true, Option.toList_some, Option.toList_none, List.cons_append, List.nil_append, r, r2]); (try simp (disch := omega) only [lc_eq, lc_le, lc_lt, lc_ge, lc_gt, mb_t1, mb_t0, bI_0, bI_1, n_in, n_lt, n_le, n_eq, Bool.not_eq_false, Bool.not_eq_true, Decidable.not_not, true_and, r, r2])
    exact next () trivial
def landF (B : Bd) (l : Nat → Nat) (side : Nat) (w : Bool) (p : Nat) : Nat := if l p = 1 + side then (if w = true then bV B p else 1) else 0
def landG (B : Bd) (l : Nat → Nat) (side : Nat) (w : Bool) : Nat := smP (landF B l side w) (bN B)
theorem s_landOf {Q : Option Value → mw → Prop} {M : mw} {B : Bd} {l : Nat → Nat} (hN : bN B ≤ 36) (hM : MB B M) (hl : ∀ p, p < 36 → M.1 56 (36 + p) = nI (l p)) (h2 : ∀ p, l p ≤ 2) {side : Nat} (hs : side < 2) (w : Bool)
    (q : Q (some (.int (nI (landG B l side w)))) M) : V_landOf [.ref 0, .int (nI side), .int (bI w)] M Q := by
  refine e_landOf (r_landOf_0 ?_)
  refine upTo (bN B) (fun _ (_ : Unit) => True)
    (fun p _ => T_landOf Q 5 [some (.ref 0), some (.int (nI side)), some (.int (bI w)), some (.int (nI (smP (landF B l side w) p))), some (.int (nI p))] [] M) ?_ ?_ 0 () (by omega) trivial
  · intro _ _
    refine r_landOf_5 (s_places hM (r_landOf_11 ?_))
    (try simp +decide (disch := omega) only [n_lit2, n_add, n_mul, n_tn, n_inT, n_ltT, n_ltF, n_leT, n_leF, n_eqT, n_eqF, n_eqm, n_meq, n_div, n_rem, nb_0, nb_1, nr_b, true_and, and_true, eq_self, Decidable.not_not, not_false_eq_true, not_true_eq_false, false_implies, true_implies, implies_true, Option.toList_some, Option.toList_none, List.cons_append, List.nil_append]); (try simp (disch := omega) only [lc_eq, lc_le, lc_lt, lc_ge, lc_gt, mb_t1, mb_t0, bI_0, bI_1, n_in, n_lt, n_le, n_eq, Bool.not_eq_false, Bool.not_eq_true, Decidable.not_not, true_and])
    exact q
  · intro p _ hp _ next
    have r := hl p (by omega)
    have hlp := h2 p
    have hv := hM.2.2.2.2.2 p hp
    refine r_landOf_5 (s_places hM (r_landOf_11 ?_))
    (try simp +decide (disch := omega) only [n_lit2, n_add, n_mul, n_tn, n_inT, n_ltT, n_ltF, n_leT, n_leF, n_eqT, n_eqF, n_eqm, n_meq, n_div, n_rem, nb_0, nb_1, nr_b, true_and, and_true, eq_self, Decidable.not_not, not_false_eq_true, not_true_eq_false, false_implies, true_implies, implies_true, Option.toList_some, Option.toList_none, List.cons_append, List.nil_append, r, hv]); (try simp (disch := omega) only [lc_eq, lc_le, lc_lt, lc_ge, lc_gt, mb_t1, mb_t0, bI_0, bI_1, n_in, n_lt, n_le, n_eq, Bool.not_eq_false, Bool.not_eq_true, Decidable.not_not, true_and, r, hv])
    have nx := next () trivial
    unfold smP landF at nx
    refine ⟨fun c => ?_, fun c => ⟨fun c2 => ?_, fun c2 => ?_⟩⟩
    · rw [if_neg c] at nx; exact nx
    · rw [if_pos c, if_neg (by rw [c2]; simp)] at nx; exact nx
    · rw [if_pos c, if_pos c2] at nx; exact nx
theorem s_shutsE {Q : Option Value → mw → Prop} {M : mw} {B : Bd} {st : Nat → Nat} (hB : bOk B ∨ bN B = 0) (hM : MB B M) (hS : MS st M) (hs : sOk B st) {side : Nat} (h2 : side < 2)
    (q : ∀ M', fr 58 62 M M' → M'.2 58 0 = edgeL B st side → M'.1 59 0 = nI (linesG B st side) → M'.1 61 0 = nI (partsG B st side).length → lsL (partsG B st side) (M'.2 60) → Q none M') : V_shuts [.ref 0, .int (nI side)] M Q := by
  rcases hB with hB | hB
  · exact s_shuts hB hM hS hs h2 q
  · have f1 : fr 58 62 M (mM_up (mM_upl M 58 0 0) 59 0 0) := fr_trans (fr_upl (lo := 58) (hi := 62) M 0 _ (by omega)) (fr_up (lo := 58) (hi := 62) _ 0 _ (by omega)) (by omega) (by omega)
    have f2 : fr 58 62 M (mM_up (mM_up (mM_upl M 58 0 0) 59 0 0) 61 0 0) := fr_trans f1 (fr_up (lo := 58) (hi := 62) _ 0 _ (by omega)) (by omega) (by omega)
    refine e_shuts (r_shuts_0 (e_edges (r_edges_0 (r_edges_12 (s_places (MB_fr f1 (by omega) hM) (r_edges_17 ?_))))))
    rw [hB]
    (try simp +decide (disch := omega) only [n_lit2, n_add, n_mul, n_tn, n_inT, n_ltT, n_ltF, n_leT, n_leF, n_eqT, n_eqF, n_eqm, n_meq, n_div, n_rem, nb_0, nb_1, nr_b, true_and, and_true, eq_self, Decidable.not_not, not_false_eq_true, not_true_eq_false, false_implies, true_implies, implies_true, Option.toList_some, Option.toList_none, List.cons_append, List.nil_append]); (try simp (disch := omega) only [lc_eq, lc_le, lc_lt, lc_ge, lc_gt, mb_t1, mb_t0, bI_0, bI_1, n_in, n_lt, n_le, n_eq, Bool.not_eq_false, Bool.not_eq_true, Decidable.not_not, true_and])
    refine r_shuts_5 (r_shuts_18 (s_places (MB_fr f2 (by omega) hM) (r_shuts_24 ?_)))
    rw [hB]
    (try simp +decide (disch := omega) only [n_lit2, n_add, n_mul, n_tn, n_inT, n_ltT, n_ltF, n_leT, n_leF, n_eqT, n_eqF, n_eqm, n_meq, n_div, n_rem, nb_0, nb_1, nr_b, true_and, and_true, eq_self, Decidable.not_not, not_false_eq_true, not_true_eq_false, false_implies, true_implies, implies_true, Option.toList_some, Option.toList_none, List.cons_append, List.nil_append]); (try simp (disch := omega) only [lc_eq, lc_le, lc_lt, lc_ge, lc_gt, mb_t1, mb_t0, bI_0, bI_1, n_in, n_lt, n_le, n_eq, Bool.not_eq_false, Bool.not_eq_true, Decidable.not_not, true_and])
    unfold edgeL linesG partsG at q
    rw [hB] at q
    refine q _ f2 ?_ ?_ ?_ (lsL_nil _)
    · rfl
    · rw [m_up, if_neg (by omega), m_up, if_pos (by omega)]; rfl
    · rw [m_up, if_pos (by omega)]; rfl
noncomputable abbrev shutG (B : Bd) (st : Nat → Nat) (side : Nat) : Int64 := orL (partsG B st side) (partsG B st side).length
theorem partsG_len0 {B : Bd} (hB : bOk B ∨ bN B = 0) (st : Nat → Nat) (side : Nat) : (partsG B st side).length ≤ 16 := by
  rcases hB with h | h
  · exact partsG_len B h st side
  · unfold partsG; rw [h]; exact Nat.zero_le _
theorem s_shutIn {Q : Option Value → mw → Prop} {M : mw} {B : Bd} {st : Nat → Nat} (hB : bOk B ∨ bN B = 0) (hM : MB B M) (hS : MS st M) (hs : sOk B st) {side : Nat} (h2 : side < 2)
    (q : ∀ M', fr 58 62 M M' → M'.2 58 0 = edgeL B st side → M'.1 59 0 = nI (linesG B st side) → M'.1 61 0 = nI (partsG B st side).length → Q (some (.long (shutG B st side))) M') : V_shutIn [.ref 0, .int (nI side)] M Q := by
  have hl := partsG_len0 hB st side
  refine e_shutIn (r_shutIn_0 (s_shutsE hB hM hS hs h2 (fun M0 f0 e0 l0 n0 p0 => r_shutIn_5 ?_)))
  refine upTo (partsG B st side).length (fun _ (_ : Unit) => True)
    (fun k _ => ∀ {o1 o3 : Option Value}, T_shutIn Q 10 [some (.ref 0), o1, some (.long (orL (partsG B st side) k)), o3, some (.int (nI k))] [] M0) ?_ ?_ 0 () (by omega) trivial
  · intro _ _ o1 o3
    refine r_shutIn_10 ?_
    (try simp +decide (disch := omega) only [n_lit2, n_add, n_mul, n_tn, n_inT, n_ltT, n_ltF, n_leT, n_leF, n_eqT, n_eqF, n_eqm, n_meq, n_div, n_rem, nb_0, nb_1, nr_b, true_and, and_true, eq_self, Decidable.not_not, not_false_eq_true, not_true_eq_false, false_implies, true_implies, implies_true, Option.toList_some, Option.toList_none, List.cons_append, List.nil_append, n0]); (try simp (disch := omega) only [lc_eq, lc_le, lc_lt, lc_ge, lc_gt, mb_t1, mb_t0, bI_0, bI_1, n_in, n_lt, n_le, n_eq, Bool.not_eq_false, Bool.not_eq_true, Decidable.not_not, true_and, n0])
    exact q M0 f0 e0 l0 n0
  · intro k _ hk _ next o1 o3
    refine r_shutIn_10 ?_
    have r2 := lsL_get p0 hk
    (try simp +decide (disch := omega) only [n_lit2, n_add, n_mul, n_tn, n_inT, n_ltT, n_ltF, n_leT, n_leF, n_eqT, n_eqF, n_eqm, n_meq, n_div, n_rem, nb_0, nb_1, nr_b, true_and, and_true, eq_self, Decidable.not_not, not_false_eq_true, not_true_eq_false, false_implies, true_implies, implies_true, Option.toList_some, Option.toList_none, List.cons_append, List.nil_append, n0, r2]); (try simp (disch := omega) only [lc_eq, lc_le, lc_lt, lc_ge, lc_gt, mb_t1, mb_t0, bI_0, bI_1, n_in, n_lt, n_le, n_eq, Bool.not_eq_false, Bool.not_eq_true, Decidable.not_not, true_and, n0, r2])
    exact next () trivial
def edgA (B : Bd) (st : Nat → Nat) (p : Nat) : Nat := (if mb (edgeL B st 0) p = true then 1 else 0) + 2 * (if mb (edgeL B st 1) p = true then 1 else 0)
theorem s_edgesAt {Q : Option Value → mw → Prop} {M : mw} {B : Bd} {st : Nat → Nat} (hB : bOk B) (hM : MB B M) (hS : MS st M) (hs : sOk B st) {p : Nat} (hp : p < 64)
    (q : ∀ M', fr 58 59 M M' → Q (some (.int (nI (edgA B st p)))) M') : V_edgesAt [.ref 0, .int (nI p)] M Q := by
  unfold edgA at q
  refine e_edgesAt (r_edgesAt_0 (r_edgesAt_4 ?_))
  (try simp +decide (disch := omega) only [n_lit2, n_add, n_mul, n_tn, n_inT, n_ltT, n_ltF, n_leT, n_leF, n_eqT, n_eqF, n_eqm, n_meq, n_div, n_rem, nb_0, nb_1, nr_b, true_and, and_true, eq_self, Decidable.not_not, not_false_eq_true, not_true_eq_false, false_implies, true_implies, implies_true, Option.toList_some, Option.toList_none, List.cons_append, List.nil_append]); (try simp (disch := omega) only [lc_eq, lc_le, lc_lt, lc_ge, lc_gt, mb_t1, mb_t0, bI_0, bI_1, n_in, n_lt, n_le, n_eq, Bool.not_eq_false, Bool.not_eq_true, Decidable.not_not, true_and])
  refine s_edges (side := 0) hB hM hS hs (by omega) (fun M1 f1 e1 _ => r_edgesAt_14 ?_)
  have hM1 := MB_fr f1 (by omega) hM
  have hS1 := MS_fr f1 (by omega) hS
  have two : ∀ x : Nat, x < 2 → (mb (edgeL B st 0) p = true ↔ x = 1) → T_edgesAt Q 4 [some (.ref 0), some (.int (nI p)), some (.int (nI x)), some (.int (nI 1))] [] M1 := by
    intro x hx hxe
    refine r_edgesAt_4 ?_
    (try simp +decide (disch := omega) only [n_lit2, n_add, n_mul, n_tn, n_inT, n_ltT, n_ltF, n_leT, n_leF, n_eqT, n_eqF, n_eqm, n_meq, n_div, n_rem, nb_0, nb_1, nr_b, true_and, and_true, eq_self, Decidable.not_not, not_false_eq_true, not_true_eq_false, false_implies, true_implies, implies_true, Option.toList_some, Option.toList_none, List.cons_append, List.nil_append]); (try simp (disch := omega) only [lc_eq, lc_le, lc_lt, lc_ge, lc_gt, mb_t1, mb_t0, bI_0, bI_1, n_in, n_lt, n_le, n_eq, Bool.not_eq_false, Bool.not_eq_true, Decidable.not_not, true_and])
    refine s_edges (side := 1) hB hM1 hS1 hs (by omega) (fun M2 f2 e2 _ => r_edgesAt_14 ?_)
    have f3 : fr 58 59 M M2 := fr_trans f1 f2 (by omega) (by omega)
    (try simp +decide (disch := omega) only [n_lit2, n_add, n_mul, n_tn, n_inT, n_ltT, n_ltF, n_leT, n_leF, n_eqT, n_eqF, n_eqm, n_meq, n_div, n_rem, nb_0, nb_1, nr_b, true_and, and_true, eq_self, Decidable.not_not, not_false_eq_true, not_true_eq_false, false_implies, true_implies, implies_true, Option.toList_some, Option.toList_none, List.cons_append, List.nil_append, e2]); (try simp (disch := omega) only [lc_eq, lc_le, lc_lt, lc_ge, lc_gt, mb_t1, mb_t0, bI_0, bI_1, n_in, n_lt, n_le, n_eq, Bool.not_eq_false, Bool.not_eq_true, Decidable.not_not, true_and, e2])
    have o2 : nI x ||| ((nI 1) <<< (nI 1 &&& nI 31)) = nI (x + 2) := by
      rcases (by omega : x = 0 ∨ x = 1) with h | h <;> subst h <;> decide
    refine ⟨fun c => r_edgesAt_4 ?_, fun c => r_edgesAt_4 ?_⟩
    · (try simp +decide (disch := omega) only [n_lit2, n_add, n_mul, n_tn, n_inT, n_ltT, n_ltF, n_leT, n_leF, n_eqT, n_eqF, n_eqm, n_meq, n_div, n_rem, nb_0, nb_1, nr_b, true_and, and_true, eq_self, Decidable.not_not, not_false_eq_true, not_true_eq_false, false_implies, true_implies, implies_true, Option.toList_some, Option.toList_none, List.cons_append, List.nil_append]); (try simp (disch := omega) only [lc_eq, lc_le, lc_lt, lc_ge, lc_gt, mb_t1, mb_t0, bI_0, bI_1, n_in, n_lt, n_le, n_eq, Bool.not_eq_false, Bool.not_eq_true, Decidable.not_not, true_and])
      have := q M2 f3
      rw [c] at this
      by_cases z : x = 1
      · rw [hxe.mpr z] at this; subst z; exact this
      · have z0 : x = 0 := by omega
        subst z0
        rw [if_neg (fun y => z (hxe.mp y))] at this; exact this
    · rw [o2]
      (try simp +decide (disch := omega) only [n_lit2, n_add, n_mul, n_tn, n_inT, n_ltT, n_ltF, n_leT, n_leF, n_eqT, n_eqF, n_eqm, n_meq, n_div, n_rem, nb_0, nb_1, nr_b, true_and, and_true, eq_self, Decidable.not_not, not_false_eq_true, not_true_eq_false, false_implies, true_implies, implies_true, Option.toList_some, Option.toList_none, List.cons_append, List.nil_append]); (try simp (disch := omega) only [lc_eq, lc_le, lc_lt, lc_ge, lc_gt, mb_t1, mb_t0, bI_0, bI_1, n_in, n_lt, n_le, n_eq, Bool.not_eq_false, Bool.not_eq_true, Decidable.not_not, true_and])
      have := q M2 f3
      rw [c] at this
      by_cases z : x = 1
      · rw [hxe.mpr z] at this; subst z; exact this
      · have z0 : x = 0 := by omega
        subst z0
        rw [if_neg (fun y => z (hxe.mp y))] at this; exact this
  (try simp +decide (disch := omega) only [n_lit2, n_add, n_mul, n_tn, n_inT, n_ltT, n_ltF, n_leT, n_leF, n_eqT, n_eqF, n_eqm, n_meq, n_div, n_rem, nb_0, nb_1, nr_b, true_and, and_true, eq_self, Decidable.not_not, not_false_eq_true, not_true_eq_false, false_implies, true_implies, implies_true, Option.toList_some, Option.toList_none, List.cons_append, List.nil_append, e1]); (try simp (disch := omega) only [lc_eq, lc_le, lc_lt, lc_ge, lc_gt, mb_t1, mb_t0, bI_0, bI_1, n_in, n_lt, n_le, n_eq, Bool.not_eq_false, Bool.not_eq_true, Decidable.not_not, true_and, e1])
  refine ⟨fun c => two 0 (by omega) (by rw [c]; simp), fun c => ?_⟩
  have o1 : nI 0 ||| ((nI 1) <<< (nI 0 &&& nI 31)) = nI 1 := by decide
  rw [o1]
  exact two 1 (by omega) (by rw [c]; simp)
