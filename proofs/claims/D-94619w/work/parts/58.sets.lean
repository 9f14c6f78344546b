/-! parts that come to be owed; a day -/
def allLandG (B : Bd) (l : Nat → Nat) (o : Int64) (side : Nat) : Bool := (List.range (bN B)).all fun p => !(mb o p) || decide (l p = 1 + side)
theorem s_isAllLand {Q : Option Value → mw → Prop} {M : mw} {B : Bd} {l : Nat → Nat} (hB : bN B ≤ 36) (hM : MB B M) (hl : ∀ p, p < 36 → M.1 56 (36 + p) = nI (l p)) (h2 : ∀ p, l p ≤ 2) (o : Int64) {side : Nat} (hs : side < 2)
    (q : Q (some (.int (bI (allLandG B l o side)))) M) : V_isAllLand [.ref 0, .long o, .int (nI side)] M Q := by
  have no : allLandG B l o side = false → Q (some (.int (nI 0))) M := fun e => by rw [e] at q; exact q
  have yes : allLandG B l o side = true → Q (some (.int (nI 1))) M := fun e => by rw [e] at q; exact q
  have main := upTo (bN B) (fun p (_ : Unit) => ∀ u, u < p → (!(mb o u) || decide (l u = 1 + side)) = true)
    (fun p _ => ∀ {o2 : Option Value}, T_isAllLand Q 3 [some (.ref 0), some (.long o), o2, some (.int (nI side)), some (.int (nI p))] [] M) ?_ ?_
  · exact e_isAllLand (r_isAllLand_0 (main 0 () (by omega) (fun u hu => by omega)))
  · intro _ h o2
    refine r_isAllLand_3 (s_places hM (r_isAllLand_9 ?_))
    (try simp +decide (disch := omega) only [n_lit2, n_add, n_mul, n_tn, n_inT, n_ltT, n_ltF, n_leT, n_leF, n_eqT, n_eqF, n_eqm, n_meq, n_div, n_rem, nb_0, nb_1, nr_b, true_and, and_true, eq_self, Decidable.not_not, not_false_eq_true, not_true_eq_false, false_implies, true_implies, implies_true, Option.toList_some, Option.toList_none, List.cons_append, List.nil_append]); (try simp (disch := omega) only [lc_eq, lc_le, lc_lt, lc_ge, lc_gt, mb_t1, mb_t0, bI_0, bI_1, n_in, n_lt, n_le, n_eq, Bool.not_eq_false, Bool.not_eq_true, Decidable.not_not, true_and])
    refine yes ?_
    unfold allLandG; rw [List.all_eq_true]
    exact fun u hu => h u (List.mem_range.mp hu)
  · intro p _ hp h next o2
    have lp := h2 p
    have r1 := hl p (by omega)
    refine r_isAllLand_3 (s_places hM (r_isAllLand_9 ?_))
    (try simp +decide (disch := omega) only [n_lit2, n_add, n_mul, n_tn, n_inT, n_ltT, n_ltF, n_leT, n_leF, n_eqT, n_eqF, n_eqm, n_meq, n_div, n_rem, nb_0, nb_1, nr_b, true_and, and_true, eq_self, Decidable.not_not, not_false_eq_true, not_true_eq_false, false_implies, true_implies, implies_true, Option.toList_some, Option.toList_none, List.cons_append, List.nil_append, r1]); (try simp (disch := omega) only [lc_eq, lc_le, lc_lt, lc_ge, lc_gt, mb_t1, mb_t0, bI_0, bI_1, n_in, n_lt, n_le, n_eq, Bool.not_eq_false, Bool.not_eq_true, Decidable.not_not, true_and, r1])
    have go : (!(mb o p) || decide (l p = 1 + side)) = true → ∀ {o2 : Option Value}, T_isAllLand Q 3 [some (.ref 0), some (.long o), o2, some (.int (nI side)), some (.int (nI (p + 1)))] [] M := by
      intro hn
      refine next () (fun u hu => ?_)
      by_cases e : u = p
      · subst e; exact hn
      · exact h u (by omega)
    refine ⟨fun c1 => go (by simp [c1]), fun c1 => ⟨fun c2 => go (by simp [c2]), fun c2 => no ?_⟩⟩
    unfold allLandG; rw [List.all_eq_false]
    exact ⟨p, List.mem_range.mpr hp, by simp [c1, c2]⟩
theorem take_get {L : List Int64} {k : Nat} (hk : k < L.length) : L.take (k + 1) = L.take k ++ [L.getD k 0] := by
  rw [List.take_succ, List.getElem?_eq_getElem hk, List.getD_eq_getElem?_getD, List.getElem?_eq_getElem hk]; rfl
theorem cont_app (L : List Int64) (a o : Int64) : (L ++ [a]).contains o = (L.contains o || (o == a)) := by
  induction L with
  | nil =>
    simp
    by_cases z : o = a <;> simp [z]
  | cons x r ih => rw [List.cons_append, List.contains_cons, List.contains_cons, ih, Bool.or_assoc]
theorem s_keepsParts {Q : Option Value → mw → Prop} {M : mw} {B : Bd} {st : Nat → Nat} (hB : bOk B) (hM : MB B M) (hS : MS st M) (hs : sOk B st) {side : Nat} (h2 : side < 2)
    (q : ∀ M', fr 58 64 M M' → M'.1 64 0 = nI (partsG B st side).length → lsL (partsG B st side) (M'.2 63) → Q none M') : V_keepsParts [.ref 0, .int (nI side)] M Q := by
  have hl := partsG_len B hB st side
  refine e_keepsParts (r_keepsParts_0 (s_shuts hB hM hS hs h2 (fun M0 f0 _ _ n0 l0 => r_keepsParts_5 ?_)))
  generalize partsG B st side = L at *
  have main := upTo L.length (fun k (M1 : mw) => fr 58 64 M M1 ∧ M1.1 61 0 = nI L.length ∧ M1.1 64 0 = nI L.length ∧ lsL L (M1.2 60) ∧ ∀ j, j < k → M1.2 63 j = L.getD j 0)
    (fun k M1 => ∀ {o1 : Option Value}, T_keepsParts Q 15 [some (.ref 0), o1, some (.int (nI k))] [] M1) ?_ ?_
  · refine main 0 _ (by omega) ⟨fr_trans f0 (fr_up (lo := 58) (hi := 64) M0 _ _ (by omega)) (by omega) (by omega), ?_, ?_, l0, fun j hj => by omega⟩
    · rw [m_up, if_neg (by omega)]; exact n0
    · rw [m_up, if_pos (by omega)]; exact n0
  · intro M1 ⟨f1, a1, a2, a3, a4⟩ o1
    refine r_keepsParts_15 ?_
    (try simp +decide (disch := omega) only [n_lit2, n_add, n_mul, n_tn, n_inT, n_ltT, n_ltF, n_leT, n_leF, n_eqT, n_eqF, n_eqm, n_meq, n_div, n_rem, nb_0, nb_1, nr_b, true_and, and_true, eq_self, Decidable.not_not, not_false_eq_true, not_true_eq_false, false_implies, true_implies, implies_true, Option.toList_some, Option.toList_none, List.cons_append, List.nil_append, a1]); (try simp (disch := omega) only [lc_eq, lc_le, lc_lt, lc_ge, lc_gt, mb_t1, mb_t0, bI_0, bI_1, n_in, n_lt, n_le, n_eq, Bool.not_eq_false, Bool.not_eq_true, Decidable.not_not, true_and, a1])
    refine q M1 f1 a2 (fun k v hv => ?_)
    have hk : k < L.length := by
      rcases Nat.lt_or_ge k L.length with h | h
      · exact h
      · rw [List.getElem?_eq_none h] at hv; cases hv
    rw [a4 k hk, List.getD_eq_getElem?_getD, hv]; rfl
  · intro k M1 hk ⟨f1, a1, a2, a3, a4⟩ next o1
    refine r_keepsParts_15 ?_
    (try simp +decide (disch := omega) only [n_lit2, n_add, n_mul, n_tn, n_inT, n_ltT, n_ltF, n_leT, n_leF, n_eqT, n_eqF, n_eqm, n_meq, n_div, n_rem, nb_0, nb_1, nr_b, true_and, and_true, eq_self, Decidable.not_not, not_false_eq_true, not_true_eq_false, false_implies, true_implies, implies_true, Option.toList_some, Option.toList_none, List.cons_append, List.nil_append, a1]); (try simp (disch := omega) only [lc_eq, lc_le, lc_lt, lc_ge, lc_gt, mb_t1, mb_t0, bI_0, bI_1, n_in, n_lt, n_le, n_eq, Bool.not_eq_false, Bool.not_eq_true, Decidable.not_not, true_and, a1])
    refine next _ ⟨fr_trans f1 (fr_upl (lo := 58) (hi := 64) M1 _ _ (by omega)) (by omega) (by omega), a1, a2, ?_, fun j hj => ?_⟩
    · intro j v hv
      rw [m_upl, if_neg (by omega)]; exact a3 j v hv
    · rw [m_upl]
      by_cases e : j = k
      · rw [if_pos ⟨rfl, e⟩, lsL_get a3 hk, e]
      · rw [if_neg (by omega)]; exact a4 j (by omega)
noncomputable def newG (B : Bd) (st l : Nat → Nat) (side : Nat) (W : List Int64) : List Int64 := (partsG B st side).filter (fun o => !(allLandG B l o side || W.contains o))
theorem s_newParts {Q : Option Value → mw → Prop} {M : mw} {B : Bd} {st l : Nat → Nat} (hB : bOk B) (hM : MB B M) (hS : MS st M) (hs : sOk B st) (hl : ∀ p, p < 36 → M.1 56 (36 + p) = nI (l p)) (hl2 : ∀ p, l p ≤ 2) {side : Nat} (h2 : side < 2)
    {W : List Int64} (hW : W.length ≤ 16) (w1 : M.1 64 0 = nI W.length) (w2 : lsL W (M.2 63))
    (q : ∀ M', fr 58 66 M M' → M'.1 66 0 = nI (newG B st l side W).length → lsL (newG B st l side W) (M'.2 65) → Q none M') : V_newParts [.ref 0, .int (nI side)] M Q := by
  have hln := partsG_len B hB st side
  have hN := hB.2.2.2.2.1
  refine e_newParts (r_newParts_0 (s_shuts hB hM hS hs h2 (fun M0 f0 _ _ n0 l0 => r_newParts_5 ?_)))
  unfold newG at q
  generalize partsG B st side = L at *
  generalize hF : (fun o => !(allLandG B l o side || W.contains o)) = F at *
  have flen : ∀ k, ((L.take k).filter F).length ≤ 16 := fun k => Nat.le_trans (List.length_filter_le _ _) (by rw [List.length_take]; omega)
  have main := upTo L.length (fun k (M1 : mw) => fr 58 66 M M1 ∧ M1.1 61 0 = nI L.length ∧ M1.1 64 0 = nI W.length ∧ lsL L (M1.2 60) ∧ lsL W (M1.2 63) ∧ M1.1 66 0 = nI ((L.take k).filter F).length ∧ lsL ((L.take k).filter F) (M1.2 65))
    (fun k M1 => ∀ {o3 o4 : Option Value}, T_newParts Q 12 [some (.ref 0), some (.int (nI side)), some (.int (nI k)), o3, o4] [] M1) ?_ ?_
  · refine main 0 _ (by omega) ⟨fr_trans f0 (fr_up (lo := 58) (hi := 66) M0 _ _ (by omega)) (by omega) (by omega), ?_, ?_, l0, ?_, ?_, ?_⟩
    · rw [m_up, if_neg (by omega)]; exact n0
    · rw [m_up, if_neg (by omega), (f0 64 (by omega)).1]; exact w1
    · rw [m_up2, (f0 63 (by omega)).2]; exact w2
    · rw [m_up, if_pos (by omega)]; rfl
    · exact lsL_nil _
  · intro M1 ⟨f1, a1, a2, a3, a4, a5, a6⟩ o3 o4
    refine r_newParts_12 ?_
    (try simp +decide (disch := omega) only [n_lit2, n_add, n_mul, n_tn, n_inT, n_ltT, n_ltF, n_leT, n_leF, n_eqT, n_eqF, n_eqm, n_meq, n_div, n_rem, nb_0, nb_1, nr_b, true_and, and_true, eq_self, Decidable.not_not, not_false_eq_true, not_true_eq_false, false_implies, true_implies, implies_true, Option.toList_some, Option.toList_none, List.cons_append, List.nil_append, a1]); (try simp (disch := omega) only [lc_eq, lc_le, lc_lt, lc_ge, lc_gt, mb_t1, mb_t0, bI_0, bI_1, n_in, n_lt, n_le, n_eq, Bool.not_eq_false, Bool.not_eq_true, Decidable.not_not, true_and, a1])
    rw [List.take_length] at a5 a6
    exact q M1 f1 a5 a6
  · intro k M1 hk ⟨f1, a1, a2, a3, a4, a5, a6⟩ next o3 o4
    have hM1 := MB_fr f1 (by omega) hM
    have hl1 : ∀ p, p < 36 → M1.1 56 (36 + p) = nI (l p) := fun p hp => by rw [(f1 56 (by omega)).1]; exact hl p hp
    have ek := lsL_get a3 hk
    have tk := take_get hk
    have fl := flen k
    refine r_newParts_12 ?_
    (try simp +decide (disch := omega) only [n_lit2, n_add, n_mul, n_tn, n_inT, n_ltT, n_ltF, n_leT, n_leF, n_eqT, n_eqF, n_eqm, n_meq, n_div, n_rem, nb_0, nb_1, nr_b, true_and, and_true, eq_self, Decidable.not_not, not_false_eq_true, not_true_eq_false, false_implies, true_implies, implies_true, Option.toList_some, Option.toList_none, List.cons_append, List.nil_append, a1, ek]); (try simp (disch := omega) only [lc_eq, lc_le, lc_lt, lc_ge, lc_gt, mb_t1, mb_t0, bI_0, bI_1, n_in, n_lt, n_le, n_eq, Bool.not_eq_false, Bool.not_eq_true, Decidable.not_not, true_and, a1, ek])
    generalize L.getD k 0 = o at *
    refine s_isAllLand hN hM1 hl1 hl2 o h2 (r_newParts_31 ?_)
    have inner := upTo W.length (fun i (b : Bool) => b = (allLandG B l o side || (W.take i).contains o))
      (fun i b => T_newParts Q 35 [some (.ref 0), some (.int (nI side)), some (.int (nI k)), some (.int (bI b)), some (.int (nI i))] [] M1) ?_ ?_
    · exact inner 0 (allLandG B l o side) (by omega) (by simp)
    · intro b hb
      rw [List.take_length] at hb
      refine r_newParts_35 ?_
      (try simp +decide (disch := omega) only [n_lit2, n_add, n_mul, n_tn, n_inT, n_ltT, n_ltF, n_leT, n_leF, n_eqT, n_eqF, n_eqm, n_meq, n_div, n_rem, nb_0, nb_1, nr_b, true_and, and_true, eq_self, Decidable.not_not, not_false_eq_true, not_true_eq_false, false_implies, true_implies, implies_true, Option.toList_some, Option.toList_none, List.cons_append, List.nil_append, a2, a5, ek]); (try simp (disch := omega) only [lc_eq, lc_le, lc_lt, lc_ge, lc_gt, mb_t1, mb_t0, bI_0, bI_1, n_in, n_lt, n_le, n_eq, Bool.not_eq_false, Bool.not_eq_true, Decidable.not_not, true_and, a2, a5, ek])
      refine ⟨fun c => ?_, fun c => ?_⟩
      · have hFo : F o = true := by rw [← hF]; show (!_) = true; rw [← hb, c]; rfl
        have e2 : (L.take (k + 1)).filter F = (L.take k).filter F ++ [o] := by
          rw [tk, List.filter_append]; congr 1; simp [hFo]
        have fl2 := flen (k + 1)
        rw [e2, List.length_append, List.length_singleton] at fl2
        (try simp +decide (disch := omega) only [n_lit2, n_add, n_mul, n_tn, n_inT, n_ltT, n_ltF, n_leT, n_leF, n_eqT, n_eqF, n_eqm, n_meq, n_div, n_rem, nb_0, nb_1, nr_b, true_and, and_true, eq_self, Decidable.not_not, not_false_eq_true, not_true_eq_false, false_implies, true_implies, implies_true, Option.toList_some, Option.toList_none, List.cons_append, List.nil_append, a5, m_upl2]); (try simp (disch := omega) only [lc_eq, lc_le, lc_lt, lc_ge, lc_gt, mb_t1, mb_t0, bI_0, bI_1, n_in, n_lt, n_le, n_eq, Bool.not_eq_false, Bool.not_eq_true, Decidable.not_not, true_and, a5, m_upl2])
        refine ⟨by omega, next _ ⟨?_, ?_, ?_, ?_, ?_, ?_, ?_⟩⟩
        · exact fr_trans (fr_trans f1 (fr_upl (lo := 58) (hi := 66) M1 _ _ (by omega)) (lo := 58) (hi := 66) (by omega) (by omega)) (fr_up (lo := 58) (hi := 66) _ _ _ (by omega)) (by omega) (by omega)
        · rw [m_up, if_neg (by omega)]; exact a1
        · rw [m_up, if_neg (by omega)]; exact a2
        · intro j v hv; rw [m_up2, m_upl, if_neg (by omega)]; exact a3 j v hv
        · intro j v hv; rw [m_up2, m_upl, if_neg (by omega)]; exact a4 j v hv
        · rw [m_up, if_pos (by omega), e2, List.length_append, List.length_singleton]
        · rw [e2]
          refine lsL_app a6 _ _ (fun j hj => ?_) ?_
          · rw [m_up2, m_upl, if_neg (by omega)]
          · rw [m_up2, m_upl, if_pos ⟨rfl, rfl⟩]
      · have hFo : F o = false := by rw [← hF]; show (!_) = false; rw [← hb, c]; rfl
        have e2 : (L.take (k + 1)).filter F = (L.take k).filter F := by
          rw [tk, List.filter_append]; simp [hFo]
        refine next M1 ⟨f1, a1, a2, a3, a4, ?_, ?_⟩
        · rw [e2]; exact a5
        · rw [e2]; exact a6
    · intro i b hi hb next2
      have ei := lsL_get a4 hi
      have ti := take_get hi
      refine r_newParts_35 ?_
      (try simp +decide (disch := omega) only [n_lit2, n_add, n_mul, n_tn, n_inT, n_ltT, n_ltF, n_leT, n_leF, n_eqT, n_eqF, n_eqm, n_meq, n_div, n_rem, nb_0, nb_1, nr_b, true_and, and_true, eq_self, Decidable.not_not, not_false_eq_true, not_true_eq_false, false_implies, true_implies, implies_true, Option.toList_some, Option.toList_none, List.cons_append, List.nil_append, a2, ek, ei]); (try simp (disch := omega) only [lc_eq, lc_le, lc_lt, lc_ge, lc_gt, mb_t1, mb_t0, bI_0, bI_1, n_in, n_lt, n_le, n_eq, Bool.not_eq_false, Bool.not_eq_true, Decidable.not_not, true_and, a2, ek, ei])
      refine ⟨fun c => next2 true ?_, fun c => ⟨fun c2 => next2 false ?_, fun c2 => next2 true ?_⟩⟩
      · rw [ti, cont_app, ← Bool.or_assoc, ← hb, c]; rfl
      · rw [ti, cont_app, ← Bool.or_assoc, ← hb, c]
        have c3 : ¬ (o = W[i]?.getD 0) := fun z => c2 (by rw [List.getD_eq_getElem?_getD]; exact z.symm)
        simp [c3]
      · rw [ti, cont_app, ← Bool.or_assoc, ← hb, c, c2]; simp
def smC (L : List Int64) : Nat → Nat
  | 0 => 0
  | k + 1 => smC L k + cnt (L.getD k 0)
theorem smC_le (L : List Int64) (k : Nat) : smC L k ≤ 64 * k := by
  induction k with
  | zero => exact Nat.le_refl _
  | succ k ih => unfold smC; have := cnt_le (L.getD k 0); omega
noncomputable def goG (B : Bd) (s : GS) (k : Nat) (pl : Option Nat) : GS := match pl with
  | none => (gS s, (lzA B s none).1, (lzA B s none).2, gD s + 1, [])
  | some p => (upN (gS s) p (2 + 2 * k + gD s % 2), (lzA B s (some p)).1, (lzA B s (some p)).2, gD s + 1, newG B (upN (gS s) p (2 + 2 * k + gD s % 2)) (lzA B s (some p)).1 (gD s % 2) (partsG B (gS s) (gD s % 2)))
theorem sOk_up {B : Bd} {st : Nat → Nat} (h : sOk B st) {p k side : Nat} (hk : k < bK B) (hs : side < 2) : sOk B (upN st p (2 + 2 * k + side)) := by
  intro u; unfold upN
  split
  · exact Or.inr (by omega)
  · exact h u
theorem gOk_up {B : Bd} {s : GS} (h : gOk B s) {p k side : Nat} (hk : k < bK B) (hs : side < 2) (hp : p < bN B) : gOk B (upN (gS s) p (2 + 2 * k + side), gL s, gC s, gD s, gO s) := by
  obtain ⟨h1, h2, h3⟩ := h
  refine ⟨sOk_up h1 hk hs, fun u hu => ?_, h3⟩
  show upN (gS s) p _ u = 0
  unfold upN; rw [if_neg (by omega)]; exact h2 u hu
/-- how many places come to be owed -/
noncomputable def goC (B : Bd) (s : GS) (k : Nat) (pl : Option Nat) : Nat := smC (gO (goG B s k pl)) (gO (goG B s k pl)).length
theorem newG_len {B : Bd} (hB : bOk B) (st l : Nat → Nat) (side : Nat) (W : List Int64) : (newG B st l side W).length ≤ 16 := Nat.le_trans (List.length_filter_le _ _) (partsG_len B hB st side)
theorem s_sets {Q : Option Value → mw → Prop} {M : mw} {B : Bd} {s : GS} (hB : bOk B) (hM : MB B M) (hG : MG s M) (hg : gOk B s) {k : Nat} {kI : Int32} (pl : Option Nat) (hp : ∀ p, pl = some p → p < bN B ∧ k < bK B ∧ kI = nI k)
    (q : ∀ M', fr 56 66 M M' → MG (goG B s k pl) M' → ((∃ p, pl = some p) → M'.1 66 0 = nI (gO (goG B s k pl)).length ∧ lsL (gO (goG B s k pl)) (M'.2 65)) → Q (some (.int (nI (goC B s k pl)))) M') : V_sets [.ref 0, .int kI, .int (plI pl)] M Q := by
  have hN := hB.2.2.2.2.1
  have hK := hB.2.2.2.2.2.1
  have hd : gD s ≤ 200 := hg.2.2.2.2.1
  have e108 : Int32.toNatClampNeg 108 = 108 := by decide
  have e109 : Int32.toNatClampNeg 109 = 109 := by decide
  have h2 : gD s % 2 < 2 := by omega
  refine e_sets (r_sets_0 (s_todays hG.2.2.2.1 (by omega) (r_sets_4 ?_)))
  cases pl with
  | none =>
    have : plI none = -nI 1 := rfl
    (try simp +decide (disch := omega) only [n_lit2, n_add, n_mul, n_tn, n_inT, n_ltT, n_ltF, n_leT, n_leF, n_eqT, n_eqF, n_eqm, n_meq, n_div, n_rem, nb_0, nb_1, nr_b, true_and, and_true, eq_self, Decidable.not_not, not_false_eq_true, not_true_eq_false, false_implies, true_implies, implies_true, Option.toList_some, Option.toList_none, List.cons_append, List.nil_append, this]); (try simp (disch := omega) only [lc_eq, lc_le, lc_lt, lc_ge, lc_gt, mb_t1, mb_t0, bI_0, bI_1, n_in, n_lt, n_le, n_eq, Bool.not_eq_false, Bool.not_eq_true, Decidable.not_not, true_and, this])
    rw [show -nI 1 = plI none from rfl]
    refine s_loses hN hM hG hg none (fun p hp => by cases hp) (fun M1 f1 g1 => r_sets_18 ?_)
    rw [e108, g1.2.2.2.1]
    (try simp +decide (disch := omega) only [n_lit2, n_add, n_mul, n_tn, n_inT, n_ltT, n_ltF, n_leT, n_leF, n_eqT, n_eqF, n_eqm, n_meq, n_div, n_rem, nb_0, nb_1, nr_b, true_and, and_true, eq_self, Decidable.not_not, not_false_eq_true, not_true_eq_false, false_implies, true_implies, implies_true, Option.toList_some, Option.toList_none, List.cons_append, List.nil_append]); (try simp (disch := omega) only [lc_eq, lc_le, lc_lt, lc_ge, lc_gt, mb_t1, mb_t0, bI_0, bI_1, n_in, n_lt, n_le, n_eq, Bool.not_eq_false, Bool.not_eq_true, Decidable.not_not, true_and])
    refine q _ (fr_trans f1 (fr_up (lo := 56) (hi := 66) M1 _ _ (by omega)) (by omega) (by omega)) (MG_upD (gD s + 1) g1) (fun ⟨p, h⟩ => by cases h)
  | some p =>
    obtain ⟨hp1, hp2, hp3⟩ := hp p rfl
    subst hp3
    have : plI (some p) = nI p := rfl
    (try simp +decide (disch := omega) only [n_lit2, n_add, n_mul, n_tn, n_inT, n_ltT, n_ltF, n_leT, n_leF, n_eqT, n_eqF, n_eqm, n_meq, n_div, n_rem, nb_0, nb_1, nr_b, true_and, and_true, eq_self, Decidable.not_not, not_false_eq_true, not_true_eq_false, false_implies, true_implies, implies_true, Option.toList_some, Option.toList_none, List.cons_append, List.nil_append, this]); (try simp (disch := omega) only [lc_eq, lc_le, lc_lt, lc_ge, lc_gt, mb_t1, mb_t0, bI_0, bI_1, n_in, n_lt, n_le, n_eq, Bool.not_eq_false, Bool.not_eq_true, Decidable.not_not, true_and, this])
    refine s_keepsParts hB hM (MG_MS hG) hg.1 h2 (fun M1 f1 n1 l1 => r_sets_26 ?_)
    (try simp +decide (disch := omega) only [n_lit2, n_add, n_mul, n_tn, n_inT, n_ltT, n_ltF, n_leT, n_leF, n_eqT, n_eqF, n_eqm, n_meq, n_div, n_rem, nb_0, nb_1, nr_b, true_and, and_true, eq_self, Decidable.not_not, not_false_eq_true, not_true_eq_false, false_implies, true_implies, implies_true, Option.toList_some, Option.toList_none, List.cons_append, List.nil_append]); (try simp (disch := omega) only [lc_eq, lc_le, lc_lt, lc_ge, lc_gt, mb_t1, mb_t0, bI_0, bI_1, n_in, n_lt, n_le, n_eq, Bool.not_eq_false, Bool.not_eq_true, Decidable.not_not, true_and])
    have g1 := MG_fr f1 (by omega) hG
    have g2 := MG_upS (p := p) (2 + 2 * k + gD s % 2) g1 (by omega)
    have fu : fr 56 56 M1 (mM_up M1 56 p (nI (2 + 2 * k + gD s % 2))) := fr_up M1 _ _ (by omega)
    have hg2 := gOk_up hg (p := p) hp2 h2 hp1
    rw [show nI p = plI (some p) from rfl]
    refine s_loses hN (MB_fr fu (by omega) (MB_fr f1 (by omega) hM)) g2 hg2 (some p) (fun p' h => by cases h; omega) (fun M2 f2 g2 => r_sets_44 ?_)
    have fa : fr 56 56 M1 M2 := fr_trans fu f2 (by omega) (by omega)
    have fb : fr 56 66 M M2 := fr_trans f1 fa (by omega) (by omega)
    have hl2 : ∀ u, (lzA B s (some p)).1 u ≤ 2 := fun u => lzs_le hg.2.2.1 (by omega) _ u
    have eL : lzA B (upN (gS s) p (2 + 2 * k + gD s % 2), gL s, gC s, gD s, gO s) (some p) = lzA B s (some p) := rfl
    rw [eL] at g2
    refine s_newParts (l := (lzA B s (some p)).1) hB (MB_fr fb (by omega) hM) (MG_MS g2) hg2.1 g2.2.1 hl2 h2 (W := partsG B (gS s) (gD s % 2)) (partsG_len B hB _ _) (by rw [(fa 64 (by omega)).1]; exact n1) (by rw [(fa 63 (by omega)).2]; exact l1) (fun M3 f3 n3 l3 => r_sets_49 ?_)
    have hnl := newG_len hB (upN (gS s) p (2 + 2 * k + gD s % 2)) (lzA B s (some p)).1 (gD s % 2) (partsG B (gS s) (gD s % 2))
    have eG : gO (goG B s k (some p)) = newG B (upN (gS s) p (2 + 2 * k + gD s % 2)) (lzA B s (some p)).1 (gD s % 2) (partsG B (gS s) (gD s % 2)) := rfl
    have g3 := MG_fr f3 (by omega) g2
    have f4 : fr 56 66 M M3 := fr_trans fb f3 (by omega) (by omega)
    unfold goC at q
    rw [eG] at q
    generalize hL : newG B (upN (gS s) p (2 + 2 * k + gD s % 2)) (lzA B s (some p)).1 (gD s % 2) (partsG B (gS s) (gD s % 2)) = L at *
    have main := upTo L.length (fun j (M4 : mw) => fr 56 66 M M4 ∧ MG (upN (gS s) p (2 + 2 * k + gD s % 2), (lzA B s (some p)).1, (lzA B s (some p)).2, gD s, []) M4 ∧ M4.1 66 0 = nI L.length ∧ lsL L (M4.2 65) ∧ ∀ i, i < j → M4.2 57 i = L.getD i 0)
      (fun j M4 => ∀ {o1 o2 o3 : Option Value}, T_sets Q 52 [some (.ref 0), o1, o2, o3, some (.int (nI (smC L j))), some (.int (nI j))] [] M4) ?_ ?_
    · exact main 0 M3 (by omega) ⟨f4, g3, n3, l3, fun i hi => by omega⟩
    · intro M4 ⟨f5, g5, n5, l5, o5⟩ o1 o2 o3
      refine r_sets_52 ?_
      rw [n5, e108, e109]
      have lo : lsL L (M4.2 57) := fun i v hv => by
        have hi : i < L.length := by
          rcases Nat.lt_or_ge i L.length with h | h
          · exact h
          · rw [List.getElem?_eq_none h] at hv; cases hv
        rw [o5 i hi, List.getD_eq_getElem?_getD, hv]; rfl
      have g6 := MG_upO L g5 lo
      have g7 := MG_upD (gD s + 1) g6
      have ed : (mM_up M4 56 109 (nI L.length)).1 56 108 = nI (gD s) := g6.2.2.2.1
      rw [ed]
      (try simp +decide (disch := omega) only [n_lit2, n_add, n_mul, n_tn, n_inT, n_ltT, n_ltF, n_leT, n_leF, n_eqT, n_eqF, n_eqm, n_meq, n_div, n_rem, nb_0, nb_1, nr_b, true_and, and_true, eq_self, Decidable.not_not, not_false_eq_true, not_true_eq_false, false_implies, true_implies, implies_true, Option.toList_some, Option.toList_none, List.cons_append, List.nil_append]); (try simp (disch := omega) only [lc_eq, lc_le, lc_lt, lc_ge, lc_gt, mb_t1, mb_t0, bI_0, bI_1, n_in, n_lt, n_le, n_eq, Bool.not_eq_false, Bool.not_eq_true, Decidable.not_not, true_and])
      refine q _ (fr_trans f5 (fr_trans (fr_up (lo := 56) (hi := 66) M4 _ _ (by omega)) (fr_up (lo := 56) (hi := 66) _ _ _ (by omega)) (lo := 56) (hi := 66) (by omega) (by omega)) (by omega) (by omega)) ?_ (fun _ => ⟨?_, l5⟩)
      · unfold goG; dsimp only; rw [hL]; exact g7
      · rw [m_up, if_neg (by omega), m_up, if_neg (by omega)]; exact n5
    · intro j M4 hj ⟨f5, g5, n5, l5, o5⟩ next o1 o2 o3
      refine r_sets_52 ?_
      have ej := lsL_get l5 hj
      have sl := smC_le L j
      have sl2 := smC_le L (j + 1)
      (try simp +decide (disch := omega) only [n_lit2, n_add, n_mul, n_tn, n_inT, n_ltT, n_ltF, n_leT, n_leF, n_eqT, n_eqF, n_eqm, n_meq, n_div, n_rem, nb_0, nb_1, nr_b, true_and, and_true, eq_self, Decidable.not_not, not_false_eq_true, not_true_eq_false, false_implies, true_implies, implies_true, Option.toList_some, Option.toList_none, List.cons_append, List.nil_append, n5, ej, m_upl]); (try simp (disch := omega) only [lc_eq, lc_le, lc_lt, lc_ge, lc_gt, mb_t1, mb_t0, bI_0, bI_1, n_in, n_lt, n_le, n_eq, Bool.not_eq_false, Bool.not_eq_true, Decidable.not_not, true_and, n5, ej, m_upl])
      refine s_bits _ (r_sets_87 ?_)
      (try simp +decide (disch := omega) only [n_lit2, n_add, n_mul, n_tn, n_inT, n_ltT, n_ltF, n_leT, n_leF, n_eqT, n_eqF, n_eqm, n_meq, n_div, n_rem, nb_0, nb_1, nr_b, true_and, and_true, eq_self, Decidable.not_not, not_false_eq_true, not_true_eq_false, false_implies, true_implies, implies_true, Option.toList_some, Option.toList_none, List.cons_append, List.nil_append, ej]); (try simp (disch := omega) only [lc_eq, lc_le, lc_lt, lc_ge, lc_gt, mb_t1, mb_t0, bI_0, bI_1, n_in, n_lt, n_le, n_eq, Bool.not_eq_false, Bool.not_eq_true, Decidable.not_not, true_and, ej])
      refine next _ ⟨fr_trans f5 (fr_upl (lo := 56) (hi := 66) M4 _ _ (by omega)) (by omega) (by omega), ⟨g5.1, g5.2.1, g5.2.2.1, g5.2.2.2.1, g5.2.2.2.2.1, lsL_nil _⟩, n5, ?_, fun i hi => ?_⟩
      · intro i v hv; rw [m_upl, if_neg (by omega)]; exact l5 i v hv
      · rw [m_upl]
        by_cases e : i = j
        · rw [if_pos ⟨rfl, e⟩, e]
        · rw [if_neg (by omega)]; exact o5 i (by omega)
