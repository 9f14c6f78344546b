/-! plays, BorderStonesModel -/
theorem n_eqmb {a b : Nat} (h : a < 2147483648) (h2 : b < 2147483648) (hb : 0 < b) : (nI a = -nI b) = False := eq_false (fun z => by have := (n_eqg h h2).mp z; omega)
theorem n_ltm {b : Nat} (h2 : b < 2147483648) (hb : 0 < b) : (-nI b < nI 0) = True := eq_true (by rw [Int32.lt_iff_toInt_lt, n_ng h2, n_T (by omega)]; omega)
def valG (B : Bd) (s : GS) (side : Nat) : Int32 := nI (landG B (lzA B s none).1 side true) - nI (landG B (lzA B s none).1 (1 - side) true)
theorem s_valueFor {Q : Option Value → mw → Prop} {M : mw} {B : Bd} {s : GS} (hN : bN B ≤ 36) (hM : MB B M) (hG : MG s M) (hg : gOk B s) {side : Nat} (hs : side < 2)
    (q : ∀ M', fr 56 56 M M' → Q (some (.int (valG B s side))) M') : V_valueFor [.ref 0, .int (nI side)] M Q := by
  have hl : ∀ u, (lzA B s none).1 u ≤ 2 := fun u => lzs_le hg.2.2.1 (by omega) _ u
  have e1 : (1 : Int32) - nI side = nI (1 - side) := n_sub (a := 1) (by omega)
  refine e_valueFor (r_valueFor_0 (s_loses hN hM hG hg none (fun p hp => by cases hp) (fun M1 f1 g1 => r_valueFor_5 ?_)))
  have hM1 := MB_fr f1 (by omega) hM
  refine s_landOf hN hM1 g1.2.1 hl hs true (r_valueFor_11 ?_)
  rw [e1]
  exact s_landOf hN hM1 g1.2.1 hl (by omega) true (r_valueFor_19 ⟨trivial, q M1 f1⟩)
def mvP (N m : Nat) : Option Nat := if m = N then none else some m
def okM (B : Bd) (s : GS) (m : Nat) : Bool := decide (m = bN B) || decide (gS s m = 0)
def bst1 (own : Bool) (b : Option (Nat × Int32)) (j : Nat) (v : Int32) : Option (Nat × Int32) := match b with
  | none => some (j, v)
  | some (m, x) => if (own = true ∧ v ≤ x) ∨ (own = false ∧ x ≤ v) then some (m, x) else some (j, v)
def bst (own : Bool) (ok : Nat → Bool) (v : Nat → Int32) : Nat → Option (Nat × Int32)
  | 0 => none
  | j + 1 => if ok j = true then bst1 own (bst own ok v j) j (v j) else bst own ok v j
noncomputable def plB (B : Bd) (side : Nat) : Nat → GS → Option (Nat × Int32)
  | 0, s => some (0, valG B s side)
  | n + 1, s => bst (decide (gD s % 2 = side)) (okM B s) (fun m => ((plB B side n (goG B s 0 (mvP (bN B) m))).getD (0, 0)).2) (bN B + 1)
noncomputable def plV (B : Bd) (side n : Nat) (s : GS) : Int32 := ((plB B side n s).getD (0, 0)).2
noncomputable def plM (B : Bd) (side n : Nat) (s : GS) : Nat := ((plB B side n s).getD (0, 0)).1
theorem bst_some {own : Bool} {ok : Nat → Bool} {v : Nat → Int32} {j : Nat} (h : ok j = true) : ∃ m x, bst own ok v (j + 1) = some (m, x) := by
  unfold bst; rw [if_pos h]; unfold bst1
  split
  · exact ⟨_, _, rfl⟩
  · split <;> exact ⟨_, _, rfl⟩
theorem bst_lt {own : Bool} {ok : Nat → Bool} {v : Nat → Int32} {j m : Nat} {x : Int32} (h : bst own ok v j = some (m, x)) : m < j := by
  induction j generalizing m x with
  | zero => cases h
  | succ j ih =>
    unfold bst at h
    split at h
    · unfold bst1 at h
      split at h
      · cases h; omega
      · rename_i e
        split at h
        · cases h; have := ih e; omega
        · cases h; omega
    · have := ih h; omega
def enB (b : Option (Nat × Int32)) (best val : Int32) : Prop := match b with
  | none => best = -nI 1000000000
  | some (m, x) => best = nI m ∧ val = x ∧ m < 1000
theorem s_weighs {Q : Option Value → mw → Prop} {M : mw} {L : Nat} {s : GS} {side : Nat} (hL : L < 4) (hs : side < 2) (hd : gD s ≤ 200) (hK : MK L s M) {b : Option (Nat × Int32)} {j : Nat} (hj : j < 1000) (hb : enB b (M.1 75 L) (M.1 76 L)) (hm : M.1 74 L = nI j) (v : Int32)
    (q : ∀ M', fr 75 76 M M' → (∀ i, i ≠ L → M'.1 75 i = M.1 75 i ∧ M'.1 76 i = M.1 76 i) → enB (bst1 (decide (gD s % 2 = side)) b j v) (M'.1 75 L) (M'.1 76 L) → Q none M') : V_weighs [.ref 0, .int (nI L), .int v, .int (nI side)] M Q := by
  have r : M.1 67 (110 * L + 108) = nI (gD s) := hK.2.2.2.1
  have up : ∀ x : Option (Nat × Int32), x = some (j, v) → bst1 (decide (gD s % 2 = side)) b j v = x → Q none (mM_up (mM_up M 75 L (nI j)) 76 L v) := by
    intro x hx hbx
    refine q _ (fr_trans (fr_up (lo := 75) (hi := 76) M _ _ (by omega)) (fr_up (lo := 75) (hi := 76) _ _ _ (by omega)) (by omega) (by omega)) (fun i hi => ⟨?_, ?_⟩) ?_
    · rw [m_up, if_neg (by omega), m_up, if_neg (by omega)]
    · rw [m_up, if_neg (by omega), m_up, if_neg (by omega)]
    · rw [hbx, hx]
      refine ⟨?_, ?_, hj⟩
      · rw [m_up, if_neg (by omega), m_up, if_pos ⟨rfl, rfl⟩]
      · rw [m_up, if_pos ⟨rfl, rfl⟩]
  have same : bst1 (decide (gD s % 2 = side)) b j v = b → Q none M := fun e => q M (fr_refl _ _ _) (fun i hi => ⟨rfl, rfl⟩) (by rw [e]; exact hb)
  refine e_weighs (r_weighs_0 ?_)
  cases b with
  | none =>
    have hb' : M.1 75 L = -nI 1000000000 := hb
    (try simp +decide (disch := omega) only [n_lit2, n_add, n_mul, n_tn, n_inT, n_ltT, n_ltF, n_leT, n_leF, n_eqT, n_eqF, n_eqm, n_meq, n_div, n_rem, nb_0, nb_1, nr_b, true_and, and_true, eq_self, Decidable.not_not, not_false_eq_true, not_true_eq_false, false_implies, true_implies, implies_true, Option.toList_some, Option.toList_none, List.cons_append, List.nil_append, r, hb', hm]); (try simp (disch := omega) only [lc_eq, lc_le, lc_lt, lc_ge, lc_gt, mb_t1, mb_t0, bI_0, bI_1, n_in, n_lt, n_le, n_eq, Bool.not_eq_false, Bool.not_eq_true, Decidable.not_not, true_and, r, hb', hm])
    exact ⟨fun _ => up _ rfl rfl, fun _ => up _ rfl rfl⟩
  | some y =>
    obtain ⟨m, x⟩ := y
    obtain ⟨h1, h2, h3⟩ := hb
    (try simp +decide (disch := omega) only [n_lit2, n_add, n_mul, n_tn, n_inT, n_ltT, n_ltF, n_leT, n_leF, n_eqT, n_eqF, n_eqm, n_meq, n_div, n_rem, nb_0, nb_1, nr_b, true_and, and_true, eq_self, Decidable.not_not, not_false_eq_true, not_true_eq_false, false_implies, true_implies, implies_true, Option.toList_some, Option.toList_none, List.cons_append, List.nil_append, r, h1, h2, hm, n_eqmb]); (try simp (disch := omega) only [lc_eq, lc_le, lc_lt, lc_ge, lc_gt, mb_t1, mb_t0, bI_0, bI_1, n_in, n_lt, n_le, n_eq, Bool.not_eq_false, Bool.not_eq_true, Decidable.not_not, true_and, r, h1, h2, hm, n_eqmb])
    refine ⟨fun c => ⟨fun c2 => up _ rfl ?_, fun c2 => same ?_⟩, fun c => ⟨fun c2 => up _ rfl ?_, fun c2 => same ?_⟩⟩
    · unfold bst1; rw [decide_eq_false c]
      have : ¬ x ≤ v := Int32.not_le.mpr c2
      simp [this]
    · unfold bst1; rw [decide_eq_false c]
      have : x ≤ v := Int32.not_lt.mp c2
      simp [this]
    · unfold bst1; rw [decide_eq_true c]
      have : ¬ v ≤ x := Int32.not_le.mpr c2
      simp [this]
    · unfold bst1; rw [decide_eq_true c]
      have : v ≤ x := Int32.not_lt.mp c2
      simp [this]
/-- what a level of a play leaves as it is -/
def frP (L : Nat) (M M' : mw) : Prop := frG M M' ∧ (∀ j t, (j < L ∨ j = 4) → (gO t).length ≤ 16 → MK j t M → MK j t M') ∧ ∀ j, j < L → M'.1 74 j = M.1 74 j ∧ M'.1 75 j = M.1 75 j ∧ M'.1 76 j = M.1 76 j
theorem frP_refl (L : Nat) (M : mw) : frP L M M := ⟨frG_refl M, fun _ _ _ _ h => h, fun _ _ => ⟨rfl, rfl, rfl⟩⟩
theorem frP_trans {L : Nat} {M M1 M2 : mw} (h : frP L M M1) (g : frP L M1 M2) : frP L M M2 :=
  ⟨frG_trans h.1 g.1, fun j t hj ht k => g.2.1 j t hj ht (h.2.1 j t hj ht k), fun j hj => ⟨(g.2.2 j hj).1.trans (h.2.2 j hj).1, (g.2.2 j hj).2.1.trans (h.2.2 j hj).2.1, (g.2.2 j hj).2.2.trans (h.2.2 j hj).2.2⟩⟩
theorem frP_dn {L K : Nat} {M M' : mw} (h : frP L M M') (hk : K ≤ L) : frP K M M' := ⟨h.1, fun j t hj => h.2.1 j t (by omega), fun j hj => h.2.2 j (by omega)⟩
theorem frP_of {lo hi : Nat} {M M' : mw} (L : Nat) (h : fr lo hi M M') (h1 : 56 ≤ lo ∧ hi ≤ 66) : frP L M M' :=
  ⟨frG_of h (by omega), fun j t _ _ k => MK_fr h (by omega) k, fun j _ => by rw [(h 74 (by omega)).1, (h 75 (by omega)).1, (h 76 (by omega)).1]; exact ⟨rfl, rfl, rfl⟩⟩
theorem s_opens2 {Q : Option Value → mw → Prop} {M : mw} {L : Nat} {s : GS} (hL : L < 4) (h16 : (gO s).length ≤ 16) (hG : MG s M)
    (q : ∀ M', frP L M M' → MK L s M' → M'.1 74 L = -nI 1 → M'.1 75 L = -nI 1000000000 → Q none M') : V_opens_2 [.ref 0, .int (nI L)] M Q := by
  refine e_opens_2 (r_opens_2_0 (kk_keeps (l := L) (by omega) h16 hG (fun M1 f1 k1 o1 => r_opens_2_5 ?_)))
  (try simp +decide (disch := omega) only [n_lit2, n_add, n_mul, n_tn, n_inT, n_ltT, n_ltF, n_leT, n_leF, n_eqT, n_eqF, n_eqm, n_meq, n_div, n_rem, nb_0, nb_1, nr_b, true_and, and_true, eq_self, Decidable.not_not, not_false_eq_true, not_true_eq_false, false_implies, true_implies, implies_true, Option.toList_some, Option.toList_none, List.cons_append, List.nil_append]); (try simp (disch := omega) only [lc_eq, lc_le, lc_lt, lc_ge, lc_gt, mb_t1, mb_t0, bI_0, bI_1, n_in, n_lt, n_le, n_eq, Bool.not_eq_false, Bool.not_eq_true, Decidable.not_not, true_and])
  have f2 : fr 74 75 M1 (mM_up (mM_up M1 74 L (-nI 1)) 75 L (-nI 1000000000)) := fr_trans (fr_up (lo := 74) (hi := 75) M1 _ _ (by omega)) (fr_up (lo := 74) (hi := 75) _ _ _ (by omega)) (by omega) (by omega)
  refine q _ ⟨frG_then (frG_of f1 (by omega)) f2 (by omega), fun j t hj ht k => MK_fr f2 (by omega) (o1 j t (by omega) ht k), fun j hj => ⟨?_, ?_, ?_⟩⟩ (MK_fr f2 (by omega) k1) ?_ ?_
  · rw [m_up, if_neg (by omega), m_up, if_neg (by omega), (f1 74 (by omega)).1]
  · rw [m_up, if_neg (by omega), m_up, if_neg (by omega), (f1 75 (by omega)).1]
  · rw [m_up, if_neg (by omega), m_up, if_neg (by omega), (f1 76 (by omega)).1]
  · rw [m_up, if_neg (by omega), m_up, if_pos ⟨rfl, rfl⟩]
  · rw [m_up, if_pos ⟨rfl, rfl⟩]
/-- what a day leaves: still a state -/
def goOk (B : Bd) : Prop := ∀ s k pl, gOk B s → gD s < 200 → (∀ p, pl = some p → p < bN B ∧ k < bK B) → gOk B (goG B s k pl)
theorem pl_in {Q : Option Value → mw → Prop} {B : Bd} (hB : bOk B) (hK0 : 0 < bK B) {n side L : Nat} (hL : L < 3) (hs : side < 2) {s : GS} (hg : gOk B s) (val : Nat → Int32)
    (ev : ∀ m, m ≤ bN B → okM B s m = true → ∀ (M1 : mw) (b : Option (Nat × Int32)), MB B M1 → MG (goG B s 0 (mvP (bN B) m)) M1 → MK L s M1 → M1.1 74 L = nI m → enB b (M1.1 75 L) (M1.1 76 L) →
      (∀ M2, frP L M1 M2 → MK L s M2 → M2.1 74 L = nI m → enB (bst1 (decide (gD s % 2 = side)) b m (val m)) (M2.1 75 L) (M2.1 76 L) → ∀ {o4 o5 : Option Value}, T_plays Q 7 [some (.ref 0), some (.int (nI n)), some (.int (nI side)), some (.int (nI L)), o4, o5] [] M2) →
      ∀ {c : Int32} {o4 o5 : Option Value}, T_plays Q 108 [some (.ref 0), some (.int (nI n)), some (.int (nI side)), some (.int (nI L)), o4, o5] [.int c] M1)
    (M0 : mw) (cont : ∀ (M' : mw), frP L M0 M' → MK L s M' → enB (bst (decide (gD s % 2 = side)) (okM B s) val (bN B + 1)) (M'.1 75 L) (M'.1 76 L) → ∀ {o5 : Option Value}, T_plays Q 40 [some (.ref 0), some (.int (nI n)), some (.int (nI side)), some (.int (nI L)), some (.int (nI (bN B + 1))), o5] [.int (nI (bN B)), .int (nI (bN B + 1))] M') :
    ∀ (f j : Nat) (M : mw), bN B + 1 - j = f → j ≤ bN B + 1 → frP L M0 M → MB B M → MK L s M → M.1 74 L = nI j + -nI 1 → enB (bst (decide (gD s % 2 = side)) (okM B s) val j) (M.1 75 L) (M.1 76 L) →
    ∀ {o4 o5 : Option Value}, T_plays Q 7 [some (.ref 0), some (.int (nI n)), some (.int (nI side)), some (.int (nI L)), o4, o5] [] M := by
  have hN := hB.2.2.2.2.1
  have hK := hB.2.2.2.2.2.1
  have h12 := s12 hK hg.1
  have h16 := hg.2.2.2.2.2.1
  intro f
  induction f with
  | zero =>
    intro j M hf hj fM hM hKs h74 hen o4 o5
    have ej : j = bN B + 1 := by omega
    subst ej
    refine r_plays_7 ?_
    (try simp +decide (disch := omega) only [n_lit2, n_add, n_mul, n_tn, n_inT, n_ltT, n_ltF, n_leT, n_leF, n_eqT, n_eqF, n_eqm, n_meq, n_div, n_rem, nb_0, nb_1, nr_b, true_and, and_true, eq_self, Decidable.not_not, not_false_eq_true, not_true_eq_false, false_implies, true_implies, implies_true, Option.toList_some, Option.toList_none, List.cons_append, List.nil_append]); (try simp (disch := omega) only [lc_eq, lc_le, lc_lt, lc_ge, lc_gt, mb_t1, mb_t0, bI_0, bI_1, n_in, n_lt, n_le, n_eq, Bool.not_eq_false, Bool.not_eq_true, Decidable.not_not, true_and])
    refine kk_back (by omega) h16 hKs (fun M1 f1 g1 => r_plays_16 ?_)
    have e74 : M1.1 74 L + nI 1 = nI (bN B + 1) := by rw [(f1 74 (by omega)).1, h74, Int32.add_assoc, Int32.add_left_neg, Int32.add_zero]
    have eu : (mM_up M1 74 L (nI (bN B + 1))).1 74 L = nI (bN B + 1) := by rw [m_up, if_pos ⟨rfl, rfl⟩]
    have fu : fr 74 74 M1 (mM_up M1 74 L (nI (bN B + 1))) := fr_up M1 _ _ (by omega)
    (try simp +decide (disch := omega) only [n_lit2, n_add, n_mul, n_tn, n_inT, n_ltT, n_ltF, n_leT, n_leF, n_eqT, n_eqF, n_eqm, n_meq, n_div, n_rem, nb_0, nb_1, nr_b, true_and, and_true, eq_self, Decidable.not_not, not_false_eq_true, not_true_eq_false, false_implies, true_implies, implies_true, Option.toList_some, Option.toList_none, List.cons_append, List.nil_append, e74, eu]); (try simp (disch := omega) only [lc_eq, lc_le, lc_lt, lc_ge, lc_gt, mb_t1, mb_t0, bI_0, bI_1, n_in, n_lt, n_le, n_eq, Bool.not_eq_false, Bool.not_eq_true, Decidable.not_not, true_and, e74, eu])
    refine s_places (MB_fr fu (by omega) (MB_fr f1 (by omega) hM)) ?_
    have f2 : frP L M0 (mM_up M1 74 L (nI (bN B + 1))) := frP_trans (frP_trans fM (frP_of L f1 (by omega))) ⟨frG_of fu (by omega), fun j t _ _ k => MK_fr fu (by omega) k, fun j hj => ⟨by rw [m_up, if_neg (by omega)], by rw [m_up, if_neg (by omega)], by rw [m_up, if_neg (by omega)]⟩⟩
    refine cont _ f2 (MK_fr fu (by omega) (MK_fr f1 (by omega) hKs)) ?_
    rw [(fu 75 (by omega)).1, (fu 76 (by omega)).1, (f1 75 (by omega)).1, (f1 76 (by omega)).1]
    exact hen
  | succ f ih =>
    intro j M hf hj fM hM hKs h74 hen o4 o5
    refine r_plays_7 ?_
    (try simp +decide (disch := omega) only [n_lit2, n_add, n_mul, n_tn, n_inT, n_ltT, n_ltF, n_leT, n_leF, n_eqT, n_eqF, n_eqm, n_meq, n_div, n_rem, nb_0, nb_1, nr_b, true_and, and_true, eq_self, Decidable.not_not, not_false_eq_true, not_true_eq_false, false_implies, true_implies, implies_true, Option.toList_some, Option.toList_none, List.cons_append, List.nil_append]); (try simp (disch := omega) only [lc_eq, lc_le, lc_lt, lc_ge, lc_gt, mb_t1, mb_t0, bI_0, bI_1, n_in, n_lt, n_le, n_eq, Bool.not_eq_false, Bool.not_eq_true, Decidable.not_not, true_and])
    refine kk_back (by omega) h16 hKs (fun M1 f1 g1 => r_plays_16 ?_)
    have e74 : M1.1 74 L + nI 1 = nI j := by rw [(f1 74 (by omega)).1, h74, Int32.add_assoc, Int32.add_left_neg, Int32.add_zero]
    have eu : (mM_up M1 74 L (nI j)).1 74 L = nI j := by rw [m_up, if_pos ⟨rfl, rfl⟩]
    have fu : fr 74 74 M1 (mM_up M1 74 L (nI j)) := fr_up M1 _ _ (by omega)
    (try simp +decide (disch := omega) only [n_lit2, n_add, n_mul, n_tn, n_inT, n_ltT, n_ltF, n_leT, n_leF, n_eqT, n_eqF, n_eqm, n_meq, n_div, n_rem, nb_0, nb_1, nr_b, true_and, and_true, eq_self, Decidable.not_not, not_false_eq_true, not_true_eq_false, false_implies, true_implies, implies_true, Option.toList_some, Option.toList_none, List.cons_append, List.nil_append, e74, eu]); (try simp (disch := omega) only [lc_eq, lc_le, lc_lt, lc_ge, lc_gt, mb_t1, mb_t0, bI_0, bI_1, n_in, n_lt, n_le, n_eq, Bool.not_eq_false, Bool.not_eq_true, Decidable.not_not, true_and, e74, eu])
    have hM1 := MB_fr f1 (by omega) hM
    have hM2 : MB B (mM_up M1 74 L (nI j)) := MB_fr fu (by omega) hM1
    have g2 : MG s (mM_up M1 74 L (nI j)) := MG_fr fu (by omega) g1
    have k2 := MK_fr fu (by omega) (MK_fr f1 (by omega) hKs)
    have f2 : frP L M0 (mM_up M1 74 L (nI j)) := frP_trans (frP_trans fM (frP_of L f1 (by omega))) ⟨frG_of fu (by omega), fun j t _ _ k => MK_fr fu (by omega) k, fun j hj => ⟨by rw [m_up, if_neg (by omega)], by rw [m_up, if_neg (by omega)], by rw [m_up, if_neg (by omega)]⟩⟩
    have en2 : enB (bst (decide (gD s % 2 = side)) (okM B s) val j) ((mM_up M1 74 L (nI j)).1 75 L) ((mM_up M1 74 L (nI j)).1 76 L) := by
      rw [(fu 75 (by omega)).1, (fu 76 (by omega)).1, (f1 75 (by omega)).1, (f1 76 (by omega)).1]; exact hen
    generalize hM2' : mM_up M1 74 L (nI j) = M2 at *
    have go : okM B s j = true → ∀ {o4 o5 : Option Value}, V_sets [.ref 0, .int (nI 0), .int (plI (mvP (bN B) j))] M2 (fun v M1 => T_plays Q 108 [some (.ref 0), some (.int (nI n)), some (.int (nI side)), some (.int (nI L)), o4, o5] (v.toList ++ []) M1) := by
      intro hok o4 o5
      refine s_sets hB hM2 g2 hg (k := 0) (mvP (bN B) j) (fun p hp => ?_) (fun M3 f3 g3 _ => ?_)
      · unfold mvP at hp
        split at hp
        · cases hp
        · cases hp; exact ⟨by omega, hK0, rfl⟩
      refine ev j (by omega) hok M3 _ (MB_fr f3 (by omega) hM2) g3 (MK_fr f3 (by omega) k2) (by rw [(f3 74 (by omega)).1]; exact eu) (by rw [(f3 75 (by omega)).1, (f3 76 (by omega)).1]; exact en2) (fun M4 f4 k4 m4 e4 => ?_)
      intro o4 o5
      have f5 : frP L M0 M4 := frP_trans (frP_trans f2 (frP_of L f3 (by omega))) f4
      refine ih (j + 1) M4 (by omega) (by omega) f5 (MB_frG f4.1 (MB_fr f3 (by omega) hM2)) k4 ?_ ?_
      · rw [m4, ← n_add, Int32.add_assoc, Int32.add_right_neg, Int32.add_zero]
      · conv => arg 1; unfold bst
        rw [if_pos hok]; exact e4
    refine s_places hM2 (r_plays_40 ?_)
    (try simp +decide (disch := omega) only [n_lit2, n_add, n_mul, n_tn, n_inT, n_ltT, n_ltF, n_leT, n_leF, n_eqT, n_eqF, n_eqm, n_meq, n_div, n_rem, nb_0, nb_1, nr_b, true_and, and_true, eq_self, Decidable.not_not, not_false_eq_true, not_true_eq_false, false_implies, true_implies, implies_true, Option.toList_some, Option.toList_none, List.cons_append, List.nil_append]); (try simp (disch := omega) only [lc_eq, lc_le, lc_lt, lc_ge, lc_gt, mb_t1, mb_t0, bI_0, bI_1, n_in, n_lt, n_le, n_eq, Bool.not_eq_false, Bool.not_eq_true, Decidable.not_not, true_and])
    refine s_places hM2 (r_plays_73 ?_)
    by_cases z : j = bN B
    · subst z
      (try simp +decide (disch := omega) only [n_lit2, n_add, n_mul, n_tn, n_inT, n_ltT, n_ltF, n_leT, n_leF, n_eqT, n_eqF, n_eqm, n_meq, n_div, n_rem, nb_0, nb_1, nr_b, true_and, and_true, eq_self, Decidable.not_not, not_false_eq_true, not_true_eq_false, false_implies, true_implies, implies_true, Option.toList_some, Option.toList_none, List.cons_append, List.nil_append]); (try simp (disch := omega) only [lc_eq, lc_le, lc_lt, lc_ge, lc_gt, mb_t1, mb_t0, bI_0, bI_1, n_in, n_lt, n_le, n_eq, Bool.not_eq_false, Bool.not_eq_true, Decidable.not_not, true_and])
      refine s_places hM2 (r_plays_96 ?_)
      (try simp +decide (disch := omega) only [n_lit2, n_add, n_mul, n_tn, n_inT, n_ltT, n_ltF, n_leT, n_leF, n_eqT, n_eqF, n_eqm, n_meq, n_div, n_rem, nb_0, nb_1, nr_b, true_and, and_true, eq_self, Decidable.not_not, not_false_eq_true, not_true_eq_false, false_implies, true_implies, implies_true, Option.toList_some, Option.toList_none, List.cons_append, List.nil_append]); (try simp (disch := omega) only [lc_eq, lc_le, lc_lt, lc_ge, lc_gt, mb_t1, mb_t0, bI_0, bI_1, n_in, n_lt, n_le, n_eq, Bool.not_eq_false, Bool.not_eq_true, Decidable.not_not, true_and])
      have := go (by unfold okM; simp) (o4 := some (.int (nI (bN B)))) (o5 := none)
      have e1 : plI (mvP (bN B) (bN B)) = -nI 1 := by unfold mvP; rw [if_pos rfl]; rfl
      rw [e1] at this; exact this
    · have hjN : j < bN B := by omega
      (try simp +decide (disch := omega) only [n_lit2, n_add, n_mul, n_tn, n_inT, n_ltT, n_ltF, n_leT, n_leF, n_eqT, n_eqF, n_eqm, n_meq, n_div, n_rem, nb_0, nb_1, nr_b, true_and, and_true, eq_self, Decidable.not_not, not_false_eq_true, not_true_eq_false, false_implies, true_implies, implies_true, Option.toList_some, Option.toList_none, List.cons_append, List.nil_append]); (try simp (disch := omega) only [lc_eq, lc_le, lc_lt, lc_ge, lc_gt, mb_t1, mb_t0, bI_0, bI_1, n_in, n_lt, n_le, n_eq, Bool.not_eq_false, Bool.not_eq_true, Decidable.not_not, true_and])
      refine s_isFree (MG_MS g2) (fun p => by have := h12 p; omega) (by omega) (r_plays_82 ⟨fun c => ?_, fun c => ?_⟩)
      · have c1 := bI_n0 c
        rw [decide_eq_true_eq] at c1
        refine s_places hM2 (r_plays_96 ?_)
        (try simp +decide (disch := omega) only [n_lit2, n_add, n_mul, n_tn, n_inT, n_ltT, n_ltF, n_leT, n_leF, n_eqT, n_eqF, n_eqm, n_meq, n_div, n_rem, nb_0, nb_1, nr_b, true_and, and_true, eq_self, Decidable.not_not, not_false_eq_true, not_true_eq_false, false_implies, true_implies, implies_true, Option.toList_some, Option.toList_none, List.cons_append, List.nil_append]); (try simp (disch := omega) only [lc_eq, lc_le, lc_lt, lc_ge, lc_gt, mb_t1, mb_t0, bI_0, bI_1, n_in, n_lt, n_le, n_eq, Bool.not_eq_false, Bool.not_eq_true, Decidable.not_not, true_and])
        have := go (by unfold okM; rw [decide_eq_true c1, Bool.or_true]) (o4 := some (.int (nI j))) (o5 := none)
        have e1 : plI (mvP (bN B) j) = nI j := by unfold mvP; rw [if_neg z]; rfl
        rw [e1] at this; exact this
      · have c1 := bI_nn0 c
        rw [decide_eq_false_iff_not] at c1
        refine ih (j + 1) M2 (by omega) (by omega) f2 hM2 k2 ?_ ?_
        · rw [eu, ← n_add, Int32.add_assoc, Int32.add_right_neg, Int32.add_zero]
        · conv => arg 1; unfold bst
          rw [if_neg (by unfold okM; rw [decide_eq_false z, decide_eq_false c1]; simp)]; exact en2
theorem pl_loop {Q : Option Value → mw → Prop} {B : Bd} (hB : bOk B) (hK0 : 0 < bK B) (hgo : goOk B) {n side : Nat} (hn : n ≤ 3) (hs : side < 2) (r : Nat) : ∀ (L : Nat) (s : GS), L + r + 1 = n → gOk B s → gD s + r + 1 ≤ 200 → ∀ (M : mw), MB B M → MK L s M → M.1 74 L = -nI 1 → M.1 75 L = -nI 1000000000 →
    (∀ (M' : mw), frP L M M' → MK L s M' → enB (plB B side (r + 1) s) (M'.1 75 L) (M'.1 76 L) → ∀ {o5 : Option Value}, T_plays Q 40 [some (.ref 0), some (.int (nI n)), some (.int (nI side)), some (.int (nI L)), some (.int (nI (bN B + 1))), o5] [.int (nI (bN B)), .int (nI (bN B + 1))] M') →
    ∀ {o4 o5 : Option Value}, T_plays Q 7 [some (.ref 0), some (.int (nI n)), some (.int (nI side)), some (.int (nI L)), o4, o5] [] M := by
  have hN := hB.2.2.2.2.1
  have hK := hB.2.2.2.2.2.1
  have gnext : ∀ s, gOk B s → gD s < 200 → ∀ m, m ≤ bN B → gOk B (goG B s 0 (mvP (bN B) m)) := fun s hg hd m hm => hgo s 0 _ hg hd (fun p hp => by
    unfold mvP at hp
    split at hp
    · cases hp
    · cases hp; exact ⟨by omega, hK0⟩)
  have gday : ∀ s m, gD (goG B s 0 (mvP (bN B) m)) = gD s + 1 := fun s m => by unfold mvP; split <;> rfl
  induction r with
  | zero =>
    intro L s hL hg hd M hM hKs h74 h75 cont o4 o5
    refine pl_in hB hK0 (by omega) hs hg (fun m => ((plB B side 0 (goG B s 0 (mvP (bN B) m))).getD (0, 0)).2) (fun m hm hok M1 b hM1 g1 k1 a1 e1 nx => ?_) M cont (bN B + 1) 0 M rfl (by omega) (frP_refl _ _) hM hKs (by rw [h74]; rfl) h75
    intro c o4 o5
    have hg1 := gnext s hg (by omega) m hm
    refine r_plays_108 ?_
    have en : nI n - nI 1 = nI L := by rw [n_sub (by omega)]; congr 1; omega
    (try simp +decide (disch := omega) only [n_lit2, n_add, n_mul, n_tn, n_inT, n_ltT, n_ltF, n_leT, n_leF, n_eqT, n_eqF, n_eqm, n_meq, n_div, n_rem, nb_0, nb_1, nr_b, true_and, and_true, eq_self, Decidable.not_not, not_false_eq_true, not_true_eq_false, false_implies, true_implies, implies_true, Option.toList_some, Option.toList_none, List.cons_append, List.nil_append, en]); (try simp (disch := omega) only [lc_eq, lc_le, lc_lt, lc_ge, lc_gt, mb_t1, mb_t0, bI_0, bI_1, n_in, n_lt, n_le, n_eq, Bool.not_eq_false, Bool.not_eq_true, Decidable.not_not, true_and, en])
    refine s_valueFor hN hM1 g1 hg1 hs (fun M2 f2 => r_plays_124 ?_)
    refine s_weighs (s := s) (b := b) (j := m) (by omega) hs (by omega) (MK_fr f2 (by omega) k1) (by omega) (by rw [(f2 75 (by omega)).1, (f2 76 (by omega)).1]; exact e1) (by rw [(f2 74 (by omega)).1]; exact a1) _ (fun M3 f3 o3 e3 => r_plays_128 (r_plays_139 ?_))
    refine nx M3 (frP_trans (frP_of L f2 (by omega)) ⟨frG_of f3 (by omega), fun j t _ _ k => MK_fr f3 (by omega) k, fun j hj => ⟨by rw [(f3 74 (by omega)).1], (o3 j (by omega)).1, (o3 j (by omega)).2⟩⟩) (MK_fr f3 (by omega) (MK_fr f2 (by omega) k1)) (by rw [(f3 74 (by omega)).1, (f2 74 (by omega)).1]; exact a1) e3
  | succ r ih =>
    intro L s hL hg hd M hM hKs h74 h75 cont o4 o5
    refine pl_in hB hK0 (by omega) hs hg (fun m => ((plB B side (r + 1) (goG B s 0 (mvP (bN B) m))).getD (0, 0)).2) (fun m hm hok M1 b hM1 g1 k1 a1 e1 nx => ?_) M cont (bN B + 1) 0 M rfl (by omega) (frP_refl _ _) hM hKs (by rw [h74]; rfl) h75
    intro c o4 o5
    have hg1 := gnext s hg (by omega) m hm
    have hgd := gday s m
    refine r_plays_108 ?_
    have en : nI n - nI 1 = nI (n - 1) := n_sub (by omega)
    (try simp +decide (disch := omega) only [n_lit2, n_add, n_mul, n_tn, n_inT, n_ltT, n_ltF, n_leT, n_leF, n_eqT, n_eqF, n_eqm, n_meq, n_div, n_rem, nb_0, nb_1, nr_b, true_and, and_true, eq_self, Decidable.not_not, not_false_eq_true, not_true_eq_false, false_implies, true_implies, implies_true, Option.toList_some, Option.toList_none, List.cons_append, List.nil_append, en]); (try simp (disch := omega) only [lc_eq, lc_le, lc_lt, lc_ge, lc_gt, mb_t1, mb_t0, bI_0, bI_1, n_in, n_lt, n_le, n_eq, Bool.not_eq_false, Bool.not_eq_true, Decidable.not_not, true_and, en])
    refine s_opens2 (by omega) hg1.2.2.2.2.2.1 g1 (fun M2 f2 k2 m2 b2 => r_plays_139 ?_)
    have f2' := frP_dn f2 (Nat.le_succ L)
    refine ih (L + 1) _ (by omega) hg1 (by omega) M2 (MB_frG f2.1 hM1) k2 m2 b2 (fun M3 f3 k3 e3 => ?_)
    intro o5
    have f3' := frP_dn f3 (Nat.le_succ L)
    have k4 : MK L s M3 := f3.2.1 L s (Or.inl (by omega)) hg.2.2.2.2.2.1 (f2.2.1 L s (Or.inl (by omega)) hg.2.2.2.2.2.1 k1)
    have q2 := f2.2.2 L (by omega)
    have q3 := f3.2.2 L (by omega)
    refine r_plays_40 ?_
    have eL : nI (L + 1) + -nI 1 = nI L := n_subneg (b := 1) (by omega)
    (try simp +decide (disch := omega) only [n_lit2, n_add, n_mul, n_tn, n_inT, n_ltT, n_ltF, n_leT, n_leF, n_eqT, n_eqF, n_eqm, n_meq, n_div, n_rem, nb_0, nb_1, nr_b, true_and, and_true, eq_self, Decidable.not_not, not_false_eq_true, not_true_eq_false, false_implies, true_implies, implies_true, Option.toList_some, Option.toList_none, List.cons_append, List.nil_append, eL]); (try simp (disch := omega) only [lc_eq, lc_le, lc_lt, lc_ge, lc_gt, mb_t1, mb_t0, bI_0, bI_1, n_in, n_lt, n_le, n_eq, Bool.not_eq_false, Bool.not_eq_true, Decidable.not_not, true_and, eL])
    have ev : M3.1 76 (L + 1) = ((plB B side (r + 1) (goG B s 0 (mvP (bN B) m))).getD (0, 0)).2 := by
      obtain ⟨m', x', hx⟩ : ∃ m' x', plB B side (r + 1) (goG B s 0 (mvP (bN B) m)) = some (m', x') := bst_some (by unfold okM; simp)
      rw [hx] at e3 ⊢
      exact e3.2.1
    rw [ev]
    refine s_weighs (s := s) (b := b) (j := m) (by omega) hs (by omega) k4 (by omega) (by rw [q3.2.1, q3.2.2, q2.2.1, q2.2.2]; exact e1) (by rw [q3.1, q2.1]; exact a1) _ (fun M4 f4 o4' e4 => r_plays_64 ?_)
    refine nx M4 (frP_trans (frP_trans f2' f3') ⟨frG_of f4 (by omega), fun j t _ _ k => MK_fr f4 (by omega) k, fun j hj => ⟨by rw [(f4 74 (by omega)).1], (o4' j (by omega)).1, (o4' j (by omega)).2⟩⟩) (MK_fr f4 (by omega) k4) (by rw [(f4 74 (by omega)).1, q3.1, q2.1]; exact a1) e4
theorem s_plays {Q : Option Value → mw → Prop} {M : mw} {B : Bd} {s : GS} (hB : bOk B) (hK0 : 0 < bK B) (hgo : goOk B) (hM : MB B M) (hG : MG s M) (hg : gOk B s) {n side : Nat} (h1 : 1 ≤ n) (hn : n ≤ 3) (hs : side < 2) (hd : gD s + n ≤ 200)
    (q : ∀ M', frG M M' → MG s M' → (∀ t, (gO t).length ≤ 16 → MK 4 t M → MK 4 t M') → M'.1 75 0 = nI (plM B side n s) → plM B side n s ≤ bN B → Q (some (.int (plV B side n s))) M') : V_plays [.ref 0, .int (nI n), .int (nI side)] M Q := by
  have hN := hB.2.2.2.2.1
  have h16 := hg.2.2.2.2.2.1
  refine e_plays (r_plays_0 (s_opens2 (L := 0) (by omega) h16 hG (fun M1 f1 k1 m1 b1 => ?_)))
  refine pl_loop hB hK0 hgo hn hs (n - 1) 0 s (by omega) hg (by omega) M1 (MB_frG f1.1 hM) k1 m1 b1 (fun M2 f2 k2 e2 => ?_)
  intro o5
  refine r_plays_40 ?_
  have e0 : nI 0 + -nI 1 = -nI 1 := Int32.zero_add _
  (try simp +decide (disch := omega) only [n_lit2, n_add, n_mul, n_tn, n_inT, n_ltT, n_ltF, n_leT, n_leF, n_eqT, n_eqF, n_eqm, n_meq, n_div, n_rem, nb_0, nb_1, nr_b, true_and, and_true, eq_self, Decidable.not_not, not_false_eq_true, not_true_eq_false, false_implies, true_implies, implies_true, Option.toList_some, Option.toList_none, List.cons_append, List.nil_append, e0, n_ltm]); (try simp (disch := omega) only [lc_eq, lc_le, lc_lt, lc_ge, lc_gt, mb_t1, mb_t0, bI_0, bI_1, n_in, n_lt, n_le, n_eq, Bool.not_eq_false, Bool.not_eq_true, Decidable.not_not, true_and, e0, n_ltm])
  refine r_plays_7 ?_
  (try simp +decide (disch := omega) only [n_lit2, n_add, n_mul, n_tn, n_inT, n_ltT, n_ltF, n_leT, n_leF, n_eqT, n_eqF, n_eqm, n_meq, n_div, n_rem, nb_0, nb_1, nr_b, true_and, and_true, eq_self, Decidable.not_not, not_false_eq_true, not_true_eq_false, false_implies, true_implies, implies_true, Option.toList_some, Option.toList_none, List.cons_append, List.nil_append, n_ltm]); (try simp (disch := omega) only [lc_eq, lc_le, lc_lt, lc_ge, lc_gt, mb_t1, mb_t0, bI_0, bI_1, n_in, n_lt, n_le, n_eq, Bool.not_eq_false, Bool.not_eq_true, Decidable.not_not, true_and, n_ltm])
  refine kk_back (l := 0) (by omega) h16 k2 (fun M3 f3 g3 => r_plays_147 ?_)
  obtain ⟨m, x, hx⟩ : ∃ m x, plB B side (n - 1 + 1) s = some (m, x) := bst_some (by unfold okM; simp)
  rw [hx] at e2
  have hlt : m < bN B + 1 := bst_lt hx
  rw [show n - 1 + 1 = n from by omega] at hx
  have a1 : plM B side n s = m := by unfold plM; rw [hx]; rfl
  have a2 : plV B side n s = x := by unfold plV; rw [hx]; rfl
  have r1 : M3.1 76 0 = x := by rw [(f3 76 (by omega)).1]; exact e2.2.1
  (try simp +decide (disch := omega) only [n_lit2, n_add, n_mul, n_tn, n_inT, n_ltT, n_ltF, n_leT, n_leF, n_eqT, n_eqF, n_eqm, n_meq, n_div, n_rem, nb_0, nb_1, nr_b, true_and, and_true, eq_self, Decidable.not_not, not_false_eq_true, not_true_eq_false, false_implies, true_implies, implies_true, Option.toList_some, Option.toList_none, List.cons_append, List.nil_append, r1]); (try simp (disch := omega) only [lc_eq, lc_le, lc_lt, lc_ge, lc_gt, mb_t1, mb_t0, bI_0, bI_1, n_in, n_lt, n_le, n_eq, Bool.not_eq_false, Bool.not_eq_true, Decidable.not_not, true_and, r1])
  rw [← a2]
  refine q M3 (frG_then (frG_trans f1.1 f2.1) f3 (by omega)) g3 (fun t ht k => MK_fr f3 (by omega) (f2.2.1 4 t (Or.inr rfl) ht (f1.2.1 4 t (Or.inr rfl) ht k))) ?_ ?_
  · rw [(f3 75 (by omega)).1, a1]; exact e2.1
  · rw [a1]; omega
