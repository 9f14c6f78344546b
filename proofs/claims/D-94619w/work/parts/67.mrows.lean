/-! rows of days, BorderStonesModel -/
abbrev gs0 : GS := (fun _ => 0, fun _ => 0, fun _ => 0, 0, [])
abbrev sc (t : GS) (c : Nat → Int32) : GS := (gS t, gL t, c, gD t, gO t)
theorem lzs_c (N to : Nat) (pl : Option Nat) (O : List Int64) (l : Nat → Nat) (c c' : Nat → Int32) (k : Nat) : (lzs N to pl O l c k).1 = (lzs N to pl O l c' k).1 := by
  induction k with
  | zero => rfl
  | succ k ih =>
    unfold lzs
    split
    · exact ih
    · dsimp only; rw [ih]
theorem goG_sc (B : Bd) (t : GS) (c : Nat → Int32) (k : Nat) (pl : Option Nat) : ∃ c', goG B (sc t c) k pl = sc (goG B t k pl) c' := by
  have e : ∀ pl, (lzA B (sc t c) pl).1 = (lzA B t pl).1 := fun pl => lzs_c _ _ _ _ _ _ _ _
  cases pl with
  | none => exact ⟨_, by unfold goG sc; dsimp only; rw [e]⟩
  | some p => exact ⟨_, by unfold goG sc; dsimp only; rw [e]⟩
noncomputable def rwS (B : Bd) (st f : Nat → Nat) : Nat → GS
  | 0 => gs0
  | k + 1 => goG B (rwS B st f k) (kdG st (f k)) (some (f k))
theorem rwS_cong {B : Bd} {st f g : Nat → Nat} {n : Nat} (h : ∀ k, k < n → f k = g k) : rwS B st f n = rwS B st g n := by
  induction n with
  | zero => rfl
  | succ n ih => unfold rwS; rw [ih (fun k hk => h k (by omega)), h n (by omega)]
def okR (st : Nat → Nat) (day : Nat) (f : Nat → Nat) (p : Nat) : Bool := decide (0 < st p) && decide (st p % 2 = day % 2) && (List.range day).all (fun k => decide (f k ≠ p))
noncomputable def rwE (B : Bd) (t : GS) (tl : Nat → Nat) : Bool := (List.range (bN B)).all fun p => decide (gL t p = tl p)
noncomputable def rwC (B : Bd) (st tl : Nat → Nat) : Nat → Nat → (Nat → Nat) → Nat
  | 0, day, f => if rwE B (rwS B st f day) tl = true then 1 else 0
  | r + 1, day, f => smP (fun p => if okR st day f p = true then rwC B st tl r (day + 1) (upN f day p) else 0) (bN B)
def rowN (B : Bd) (s : GS) : Nat := stonesG B (gS s) (some 0) none + stonesG B (gS s) (some 1) none
def rowOk (B : Bd) (s : GS) : Prop := 1 ≤ rowN B s ∧ rowN B s ≤ 8 ∧ stonesG B (gS s) (some 0) none = (rowN B s + 1) / 2
theorem rwS_ok {B : Bd} (hB : bOk B) {st f : Nat → Nat} (hs : sOk B st) {n : Nat} (hn : n ≤ 8) (hf : ∀ k, k < n → f k < bN B ∧ st (f k) ≠ 0) : gOk B (rwS B st f n) ∧ gD (rwS B st f n) = n := by
  induction n with
  | zero => exact ⟨⟨fun p => Or.inl rfl, fun p _ => rfl, fun p => Nat.zero_le _, fun p _ => rfl, Nat.zero_le _, Nat.zero_le _, (fun o h => absurd (show o ∈ ([] : List Int64) from h) List.not_mem_nil), List.Pairwise.nil⟩, rfl⟩
  | succ n ih =>
    obtain ⟨i1, i2⟩ := ih (by omega) (fun k hk => hf k (by omega))
    obtain ⟨f1, f2⟩ := hf n (by omega)
    refine ⟨goOk_all hB _ _ _ i1 (by omega) (fun p h => by cases h; exact ⟨f1, sOk_kd hs f2⟩), ?_⟩
    show gD (rwS B st f n) + 1 = n + 1
    rw [i2]
def MRw (st tl : Nat → Nat) (M : mw) : Prop := ∀ p, p < 36 → M.1 78 p = nI (st p) ∧ M.1 79 p = nI (tl p)
theorem MRw_fr {lo hi : Nat} {M M' : mw} {st tl : Nat → Nat} (h : fr lo hi M M') (h1 : 80 ≤ lo ∨ hi < 78) (g : MRw st tl M) : MRw st tl M' := fun p hp => by
  rw [(h 78 (by omega)).1, (h 79 (by omega)).1]; exact g p hp
theorem s_endsAlike {Q : Option Value → mw → Prop} {M : mw} {B : Bd} {st tl f : Nat → Nat} (hB : bOk B) (hM : MB B M) (hs : sOk B st) (ht : ∀ p, tl p ≤ 2) (hR : MRw st tl M) {n : Nat} (hn : n ≤ 8) (hf : ∀ k, k < n → f k < bN B ∧ st (f k) ≠ 0) (hp : ∀ k, k < n → M.1 77 k = nI (f k))
    (q : ∀ M', fr 56 66 M M' → Q (some (.int (bI (rwE B (rwS B st f n) tl)))) M') : V_endsAlike [.ref 0, .int (nI n)] M Q := by
  have hN := hB.2.2.2.2.1
  have hK := hB.2.2.2.2.2.1
  have e108 : Int32.toNatClampNeg 108 = 108 := by decide
  have e109 : Int32.toNatClampNeg 109 = 109 := by decide
  -- the comparison
  have third : ∀ (M3 : mw) (t : GS), t = rwS B st f n → fr 56 66 M M3 → (∀ p, p < 36 → M3.1 56 (36 + p) = nI (gL t p)) → (∀ p, gL t p ≤ 2) → ∀ {o1 o3 : Option Value}, T_endsAlike Q 88 [some (.ref 0), o1, some (.int (nI 0)), o3] [] M3 := by
    intro M3 t et f3 l3 t2 o1 o3
    have q := q M3 f3
    rw [← et] at q
    have hR3 := MRw_fr f3 (by omega) hR
    refine upTo (bN B) (fun p (_ : Unit) => ∀ u, u < p → gL t u = tl u) (fun p _ => ∀ {o1 o3 : Option Value}, T_endsAlike Q 88 [some (.ref 0), o1, some (.int (nI p)), o3] [] M3) ?_ ?_ 0 () (by omega) (fun u hu => by omega)
    · intro _ h o1 o3
      refine r_endsAlike_88 (s_places (MB_fr f3 (by omega) hM) (r_endsAlike_93 ?_))
      (try simp +decide (disch := omega) only [n_lit2, n_add, n_mul, n_tn, n_inT, n_ltT, n_ltF, n_leT, n_leF, n_eqT, n_eqF, n_eqm, n_meq, n_div, n_rem, nb_0, nb_1, nr_b, true_and, and_true, eq_self, Decidable.not_not, not_false_eq_true, not_true_eq_false, false_implies, true_implies, implies_true, Option.toList_some, Option.toList_none, List.cons_append, List.nil_append]); (try simp (disch := omega) only [lc_eq, lc_le, lc_lt, lc_ge, lc_gt, mb_t1, mb_t0, bI_0, bI_1, n_in, n_lt, n_le, n_eq, Bool.not_eq_false, Bool.not_eq_true, Decidable.not_not, true_and])
      have : rwE B t tl = true := by
        unfold rwE; rw [List.all_eq_true]
        intro u hu
        rw [decide_eq_true (h u (List.mem_range.mp hu))]
      rw [this] at q; exact q
    · intro p _ hp h next o1 o3
      refine r_endsAlike_88 (s_places (MB_fr f3 (by omega) hM) (r_endsAlike_93 ?_))
      have r1 := l3 p (by omega)
      have r2 := (hR3 p (by omega)).2
      have b1 := t2 p
      have b2 := ht p
      (try simp +decide (disch := omega) only [n_lit2, n_add, n_mul, n_tn, n_inT, n_ltT, n_ltF, n_leT, n_leF, n_eqT, n_eqF, n_eqm, n_meq, n_div, n_rem, nb_0, nb_1, nr_b, true_and, and_true, eq_self, Decidable.not_not, not_false_eq_true, not_true_eq_false, false_implies, true_implies, implies_true, Option.toList_some, Option.toList_none, List.cons_append, List.nil_append, r1, r2]); (try simp (disch := omega) only [lc_eq, lc_le, lc_lt, lc_ge, lc_gt, mb_t1, mb_t0, bI_0, bI_1, n_in, n_lt, n_le, n_eq, Bool.not_eq_false, Bool.not_eq_true, Decidable.not_not, true_and, r1, r2])
      refine ⟨fun c => next () (fun u hu => ?_), fun c => ?_⟩
      · by_cases e : u = p
        · subst e; exact c
        · exact h u (by omega)
      · have : rwE B t tl = false := by
          unfold rwE; rw [List.all_eq_false]
          exact ⟨p, List.mem_range.mpr hp, by simp [c]⟩
        rw [this] at q; exact q
  have second : ∀ (M2 : mw) (c : Nat → Int32), fr 56 66 M M2 → MG (sc gs0 c) M2 → ∀ {o3 : Option Value}, T_endsAlike Q 49 [some (.ref 0), some (.int (nI n)), some (.int (nI 0)), o3] [] M2 := by
    intro M2 c f2 g2
    refine upTo n (fun k (M3 : mw) => fr 56 66 M M3 ∧ ∃ c, MG (sc (rwS B st f k) c) M3) (fun k M3 => ∀ {o3 : Option Value}, T_endsAlike Q 49 [some (.ref 0), some (.int (nI n)), some (.int (nI k)), o3] [] M3) ?_ ?_ 0 M2 (by omega) ⟨f2, c, g2⟩
    · intro M3 ⟨f3, c3, g3⟩ o3
      refine r_endsAlike_49 ?_
      (try simp +decide (disch := omega) only [n_lit2, n_add, n_mul, n_tn, n_inT, n_ltT, n_ltF, n_leT, n_leF, n_eqT, n_eqF, n_eqm, n_meq, n_div, n_rem, nb_0, nb_1, nr_b, true_and, and_true, eq_self, Decidable.not_not, not_false_eq_true, not_true_eq_false, false_implies, true_implies, implies_true, Option.toList_some, Option.toList_none, List.cons_append, List.nil_append]); (try simp (disch := omega) only [lc_eq, lc_le, lc_lt, lc_ge, lc_gt, mb_t1, mb_t0, bI_0, bI_1, n_in, n_lt, n_le, n_eq, Bool.not_eq_false, Bool.not_eq_true, Decidable.not_not, true_and])
      exact third M3 _ rfl f3 g3.2.1 ((rwS_ok hB hs hn hf).1.2.2.1)
    · intro k M3 hk ⟨f3, c3, g3⟩ next o3
      obtain ⟨a1, a2⟩ := hf k hk
      obtain ⟨ok, od⟩ := rwS_ok hB hs (n := k) (by omega) (fun j hj => hf j (by omega))
      refine r_endsAlike_49 ?_
      have r1 : M3.1 77 k = nI (f k) := by rw [(f3 77 (by omega)).1]; exact hp k hk
      have r2 : M3.1 78 (f k) = nI (st (f k)) := ((MRw_fr f3 (by omega) hR) (f k) (by omega)).1
      have s2 := hs (f k)
      have e1 : nI (st (f k)) / nI 2 - nI 1 = nI (kdG st (f k)) := by
        rw [n_div (by omega) (by omega), n_sub (by omega)]; rfl
      (try simp +decide (disch := omega) only [n_lit2, n_add, n_mul, n_tn, n_inT, n_ltT, n_ltF, n_leT, n_leF, n_eqT, n_eqF, n_eqm, n_meq, n_div, n_rem, nb_0, nb_1, nr_b, true_and, and_true, eq_self, Decidable.not_not, not_false_eq_true, not_true_eq_false, false_implies, true_implies, implies_true, Option.toList_some, Option.toList_none, List.cons_append, List.nil_append, r1, r2, e1]); (try simp (disch := omega) only [lc_eq, lc_le, lc_lt, lc_ge, lc_gt, mb_t1, mb_t0, bI_0, bI_1, n_in, n_lt, n_le, n_eq, Bool.not_eq_false, Bool.not_eq_true, Decidable.not_not, true_and, r1, r2, e1])
      obtain ⟨c4, e4⟩ := goG_sc B (rwS B st f k) c3 (kdG st (f k)) (some (f k))
      refine s_sets hB (MB_fr f3 (by omega) hM) g3 ok (k := kdG st (f k)) (some (f k)) (fun p h => by cases h; exact ⟨a1, sOk_kd hs a2, n_sub (a := st (f k) / 2) (b := 1) (by have := hs (f k); omega)⟩) (fun M4 f4 g4 _ => r_endsAlike_79 ?_)
      (try simp +decide (disch := omega) only [n_lit2, n_add, n_mul, n_tn, n_inT, n_ltT, n_ltF, n_leT, n_leF, n_eqT, n_eqF, n_eqm, n_meq, n_div, n_rem, nb_0, nb_1, nr_b, true_and, and_true, eq_self, Decidable.not_not, not_false_eq_true, not_true_eq_false, false_implies, true_implies, implies_true, Option.toList_some, Option.toList_none, List.cons_append, List.nil_append]); (try simp (disch := omega) only [lc_eq, lc_le, lc_lt, lc_ge, lc_gt, mb_t1, mb_t0, bI_0, bI_1, n_in, n_lt, n_le, n_eq, Bool.not_eq_false, Bool.not_eq_true, Decidable.not_not, true_and])
      rw [e4] at g4
      exact next M4 ⟨fr_trans f3 f4 (by omega) (by omega), c4, g4⟩
  refine e_endsAlike (r_endsAlike_0 ?_)
  refine upTo 36 (fun p (M1 : mw) => fr 56 66 M M1 ∧ ∀ u, u < p → M1.1 56 u = nI 0 ∧ M1.1 56 (36 + u) = nI 0) (fun p M1 => ∀ {o3 : Option Value}, T_endsAlike Q 2 [some (.ref 0), some (.int (nI n)), some (.int (nI p)), o3] [] M1) ?_ ?_ 0 M (by omega) ⟨fr_refl _ _ _, fun u hu => by omega⟩
  · intro M1 ⟨f1, z1⟩ o3
    refine r_endsAlike_2 ?_
    rw [e108, e109]
    (try simp +decide (disch := omega) only [n_lit2, n_add, n_mul, n_tn, n_inT, n_ltT, n_ltF, n_leT, n_leF, n_eqT, n_eqF, n_eqm, n_meq, n_div, n_rem, nb_0, nb_1, nr_b, true_and, and_true, eq_self, Decidable.not_not, not_false_eq_true, not_true_eq_false, false_implies, true_implies, implies_true, Option.toList_some, Option.toList_none, List.cons_append, List.nil_append]); (try simp (disch := omega) only [lc_eq, lc_le, lc_lt, lc_ge, lc_gt, mb_t1, mb_t0, bI_0, bI_1, n_in, n_lt, n_le, n_eq, Bool.not_eq_false, Bool.not_eq_true, Decidable.not_not, true_and])
    refine second _ (fun u => M1.1 56 (72 + u)) (fr_trans f1 (fr_trans (fr_up (lo := 56) (hi := 66) M1 _ _ (by omega)) (fr_up (lo := 56) (hi := 66) _ _ _ (by omega)) (lo := 56) (hi := 66) (by omega) (by omega)) (by omega) (by omega)) ?_
    refine ⟨fun u hu => ?_, fun u hu => ?_, fun u hu => ?_, ?_, ?_, lsL_nil _⟩
    · rw [m_up, if_neg (by omega), m_up, if_neg (by omega)]; exact (z1 u hu).1
    · rw [m_up, if_neg (by omega), m_up, if_neg (by omega)]; exact (z1 u hu).2
    · rw [m_up, if_neg (by omega), m_up, if_neg (by omega)]
    · rw [m_up, if_neg (by omega), m_up, if_pos (by omega)]
    · rw [m_up, if_pos (by omega)]; rfl
  · intro p M1 hp ⟨f1, z1⟩ next o3
    refine r_endsAlike_2 ?_
    (try simp +decide (disch := omega) only [n_lit2, n_add, n_mul, n_tn, n_inT, n_ltT, n_ltF, n_leT, n_leF, n_eqT, n_eqF, n_eqm, n_meq, n_div, n_rem, nb_0, nb_1, nr_b, true_and, and_true, eq_self, Decidable.not_not, not_false_eq_true, not_true_eq_false, false_implies, true_implies, implies_true, Option.toList_some, Option.toList_none, List.cons_append, List.nil_append]); (try simp (disch := omega) only [lc_eq, lc_le, lc_lt, lc_ge, lc_gt, mb_t1, mb_t0, bI_0, bI_1, n_in, n_lt, n_le, n_eq, Bool.not_eq_false, Bool.not_eq_true, Decidable.not_not, true_and])
    refine next _ ⟨fr_trans f1 (fr_trans (fr_up (lo := 56) (hi := 66) M1 _ _ (by omega)) (fr_up (lo := 56) (hi := 66) _ _ _ (by omega)) (lo := 56) (hi := 66) (by omega) (by omega)) (by omega) (by omega), fun u hu => ⟨?_, ?_⟩⟩
    · rw [m_up, if_neg (by omega), m_up]
      by_cases e : u = p
      · rw [if_pos ⟨rfl, e⟩]
      · rw [if_neg (by omega)]; exact (z1 u (by omega)).1
    · rw [m_up]
      by_cases e : u = p
      · rw [if_pos ⟨rfl, by rw [e]⟩]
      · rw [if_neg (by omega), m_up, if_neg (by omega)]; exact (z1 u (by omega)).2
theorem s_nextStone {Q : Option Value → mw → Prop} {M : mw} {B : Bd} {st tl f : Nat → Nat} (hN : bN B ≤ 36) (hK : bK B ≤ 5) (hM : MB B M) (hs : sOk B st) (hR : MRw st tl M) {day b : Nat} (hd : day < 8) (hf : ∀ k, k < day → f k < bN B ∧ M.1 77 k = nI (f k)) {x : Int32} (hx : x + 1 = nI b) (hb : b ≤ bN B)
    (q : Q (some (.int (plI (fstP (fun p => decide (b ≤ p) && okR st day f p) (bN B))))) M) : V_nextStone [.ref 0, .int (nI day), .int x] M Q := by
  have h12 := s12 hK hs
  refine e_nextStone (r_nextStone_0 ?_)
  rw [hx]
  refine upTo (bN B) (fun p (_ : Unit) => b ≤ p ∧ ∀ u, u < p → (decide (b ≤ u) && okR st day f u) = false) (fun p _ => ∀ {o2 o4 o5 : Option Value}, T_nextStone Q 4 [some (.ref 0), some (.int (nI day)), o2, some (.int (nI p)), o4, o5] [] M) ?_ ?_ b () hb ⟨Nat.le_refl b, (fun u hu => by rw [decide_eq_false (by omega)]; rfl)⟩
  · intro _ ⟨_, h⟩ o2 o4 o5
    refine r_nextStone_4 (s_places hM (r_nextStone_9 ?_))
    (try simp +decide (disch := omega) only [n_lit2, n_add, n_mul, n_tn, n_inT, n_ltT, n_ltF, n_leT, n_leF, n_eqT, n_eqF, n_eqm, n_meq, n_div, n_rem, nb_0, nb_1, nr_b, true_and, and_true, eq_self, Decidable.not_not, not_false_eq_true, not_true_eq_false, false_implies, true_implies, implies_true, Option.toList_some, Option.toList_none, List.cons_append, List.nil_append]); (try simp (disch := omega) only [lc_eq, lc_le, lc_lt, lc_ge, lc_gt, mb_t1, mb_t0, bI_0, bI_1, n_in, n_lt, n_le, n_eq, Bool.not_eq_false, Bool.not_eq_true, Decidable.not_not, true_and])
    rw [fstP_none h] at q; exact q
  · intro p _ hp ⟨hb2, h⟩ next o2 o4 o5
    have r1 := (hR p (by omega)).1
    have s2 := h12 p
    by_cases hbp : b ≤ p
    · have inner : ∀ (b0 : Bool), b0 = (decide (0 < st p) && decide (st p % 2 = day % 2)) → ∀ {o2 : Option Value}, T_nextStone Q 45 [some (.ref 0), some (.int (nI day)), o2, some (.int (nI p)), some (.int (bI b0)), some (.int (nI 0))] [] M := by
        intro b0 hb0
        refine upTo day (fun k (v : Bool) => v = (b0 && (List.range k).all (fun k => decide (f k ≠ p)))) (fun k v => ∀ {o2 : Option Value}, T_nextStone Q 45 [some (.ref 0), some (.int (nI day)), o2, some (.int (nI p)), some (.int (bI v)), some (.int (nI k))] [] M) ?_ ?_ 0 b0 (by omega) (by simp)
        · intro v hv o2
          have hvo : v = okR st day f p := by rw [hv, hb0]; rfl
          refine r_nextStone_45 ?_
          (try simp +decide (disch := omega) only [n_lit2, n_add, n_mul, n_tn, n_inT, n_ltT, n_ltF, n_leT, n_leF, n_eqT, n_eqF, n_eqm, n_meq, n_div, n_rem, nb_0, nb_1, nr_b, true_and, and_true, eq_self, Decidable.not_not, not_false_eq_true, not_true_eq_false, false_implies, true_implies, implies_true, Option.toList_some, Option.toList_none, List.cons_append, List.nil_append]); (try simp (disch := omega) only [lc_eq, lc_le, lc_lt, lc_ge, lc_gt, mb_t1, mb_t0, bI_0, bI_1, n_in, n_lt, n_le, n_eq, Bool.not_eq_false, Bool.not_eq_true, Decidable.not_not, true_and])
          refine ⟨fun c => ?_, fun c => ?_⟩
          · refine next () ⟨by omega, fun u hu => ?_⟩
            by_cases e : u = p
            · subst e; rw [← hvo, c, Bool.and_false]
            · exact h u (by omega)
          · rw [fstP_some hp (by rw [← hvo, c, decide_eq_true hbp]; rfl) h] at q
            exact q
        · intro k v hk hv next2 o2
          obtain ⟨fk, r2⟩ := hf k hk
          have e2 : (List.range (k + 1)).all (fun k => decide (f k ≠ p)) = ((List.range k).all (fun k => decide (f k ≠ p)) && decide (f k ≠ p)) := by
            rw [List.range_succ, List.all_append]; simp
          refine r_nextStone_45 ?_
          (try simp +decide (disch := omega) only [n_lit2, n_add, n_mul, n_tn, n_inT, n_ltT, n_ltF, n_leT, n_leF, n_eqT, n_eqF, n_eqm, n_meq, n_div, n_rem, nb_0, nb_1, nr_b, true_and, and_true, eq_self, Decidable.not_not, not_false_eq_true, not_true_eq_false, false_implies, true_implies, implies_true, Option.toList_some, Option.toList_none, List.cons_append, List.nil_append, r2]); (try simp (disch := omega) only [lc_eq, lc_le, lc_lt, lc_ge, lc_gt, mb_t1, mb_t0, bI_0, bI_1, n_in, n_lt, n_le, n_eq, Bool.not_eq_false, Bool.not_eq_true, Decidable.not_not, true_and, r2])
          refine ⟨fun c => next2 false ?_, fun c => ⟨fun c2 => next2 false ?_, fun c2 => next2 true ?_⟩⟩
          · rw [e2, ← Bool.and_assoc, ← hv, c]; rfl
          · rw [e2, ← Bool.and_assoc, ← hv, c, c2]; simp
          · rw [e2, ← Bool.and_assoc, ← hv, c]; simp [c2]
      refine r_nextStone_4 (s_places hM (r_nextStone_9 ?_))
      (try simp +decide (disch := omega) only [n_lit2, n_add, n_mul, n_tn, n_inT, n_ltT, n_ltF, n_leT, n_leF, n_eqT, n_eqF, n_eqm, n_meq, n_div, n_rem, nb_0, nb_1, nr_b, true_and, and_true, eq_self, Decidable.not_not, not_false_eq_true, not_true_eq_false, false_implies, true_implies, implies_true, Option.toList_some, Option.toList_none, List.cons_append, List.nil_append, r1]); (try simp (disch := omega) only [lc_eq, lc_le, lc_lt, lc_ge, lc_gt, mb_t1, mb_t0, bI_0, bI_1, n_in, n_lt, n_le, n_eq, Bool.not_eq_false, Bool.not_eq_true, Decidable.not_not, true_and, r1])
      refine ⟨fun c => inner false (by rw [decide_eq_false (by omega)]; rfl), fun c => ⟨fun c2 => inner false (by rw [decide_eq_false c2, Bool.and_false]), fun c2 => inner true (by rw [decide_eq_true c2, decide_eq_true (by omega)]; rfl)⟩⟩
    · omega
theorem smP_skip {g : Nat → Nat} {a b : Nat} (hab : a ≤ b) (h : ∀ u, a ≤ u → u < b → g u = 0) : smP g b = smP g a := by
  induction b with
  | zero => rw [show a = 0 from by omega]
  | succ b ih =>
    by_cases e : a = b + 1
    · rw [e]
    · conv => lhs; unfold smP
      rw [ih (by omega) (fun u h1 h2 => h u h1 (by omega)), h b (by omega) (by omega)]; rfl
theorem fstP_ex {f : Nat → Bool} {n : Nat} : (fstP f n = none ∧ ∀ u, u < n → f u = false) ∨ ∃ p, fstP f n = some p ∧ p < n ∧ f p = true ∧ ∀ u, u < p → f u = false := by
  induction n with
  | zero => exact Or.inl ⟨rfl, fun u hu => by omega⟩
  | succ n ih =>
    rcases ih with ⟨i1, i2⟩ | ⟨p, i1, i2, i3, i4⟩
    · unfold fstP
      rw [i1]
      cases c : f n with
      | true => exact Or.inr ⟨n, by simp, by omega, c, i2⟩
      | false =>
        refine Or.inl ⟨by simp, fun u hu => ?_⟩
        by_cases e : u = n
        · subst e; exact c
        · exact i2 u (by omega)
    · unfold fstP
      rw [i1]
      exact Or.inr ⟨p, rfl, by omega, i3, i4⟩
/-- what the rows leave as it is -/
def frR (day : Nat) (M M' : mw) : Prop := frG M M' ∧ (∀ t, (gO t).length ≤ 16 → MK 4 t M → MK 4 t M') ∧ M'.1 78 = M.1 78 ∧ M'.1 79 = M.1 79 ∧ ∀ k, k < day → M'.1 77 k = M.1 77 k
theorem frR_refl (day : Nat) (M : mw) : frR day M M := ⟨frG_refl M, fun _ _ h => h, rfl, rfl, fun _ _ => rfl⟩
theorem frR_trans {day : Nat} {M M1 M2 : mw} (h : frR day M M1) (g : frR day M1 M2) : frR day M M2 :=
  ⟨frG_trans h.1 g.1, fun t ht k => g.2.1 t ht (h.2.1 t ht k), g.2.2.1.trans h.2.2.1, g.2.2.2.1.trans h.2.2.2.1, fun k hk => (g.2.2.2.2 k hk).trans (h.2.2.2.2 k hk)⟩
theorem frR_dn {d d' : Nat} {M M' : mw} (h : frR d M M') (hd : d' ≤ d) : frR d' M M' := ⟨h.1, h.2.1, h.2.2.1, h.2.2.2.1, fun k hk => h.2.2.2.2 k (by omega)⟩
theorem frR_of {lo hi : Nat} {M M' : mw} (day : Nat) (h : fr lo hi M M') (h1 : 56 ≤ lo ∧ hi ≤ 66) : frR day M M' :=
  ⟨frG_of h (by omega), fun t _ k => MK_fr h (by omega) k, (h 78 (by omega)).1, (h 79 (by omega)).1, fun k _ => by rw [(h 77 (by omega)).1]⟩
theorem frR_77 {day j : Nat} (M : mw) (v : Int32) (hj : day ≤ j) : frR day M (mM_up M 77 j v) :=
  ⟨frG_of (fr_up (lo := 77) (hi := 77) M _ _ (by omega)) (by omega), fun t _ k => MK_fr (fr_up (lo := 77) (hi := 77) M j v (by omega)) (by omega) k, (fr_up (lo := 77) (hi := 77) M j v (by omega) 78 (by omega)).1, (fr_up (lo := 77) (hi := 77) M j v (by omega) 79 (by omega)).1, fun k hk => by rw [m_up, if_neg (by omega)]⟩
theorem rw_loop {Q : Option Value → mw → Prop} {B : Bd} (hB : bOk B) {st tl : Nat → Nat} (hs : sOk B st) (ht : ∀ p, tl p ≤ 2) {n : Nat} (hn : n ≤ 8) (r : Nat) : ∀ (day : Nat), day + r + 1 = n → ∀ (f : Nat → Nat), (∀ k, k < day → f k < bN B ∧ st (f k) ≠ 0) → ∀ (c : Nat) (M0 : mw),
    (∀ M', frR day M0 M' → ∀ {o1 o5 : Option Value}, T_rows Q 114 [some (.ref 0), o1, some (.int (nI n)), some (.int (nI (c + smP (fun p => if okR st day f p = true then rwC B st tl r (day + 1) (upN f day p) else 0) (bN B)))), some (.int (nI day + -1)), o5] [] M') →
    ∀ (b : Nat) (M : mw), b ≤ bN B → frR day M0 M → MB B M → MRw st tl M → (∀ k, k < day → M.1 77 k = nI (f k)) → M.1 77 day + 1 = nI b →
    ∀ {o1 o5 : Option Value}, T_rows Q 114 [some (.ref 0), o1, some (.int (nI n)), some (.int (nI (c + smP (fun p => if okR st day f p = true then rwC B st tl r (day + 1) (upN f day p) else 0) b))), some (.int (nI day)), o5] [] M := by
  have hN := hB.2.2.2.2.1
  have hK := hB.2.2.2.2.2.1
  have h12 := s12 hK hs
  -- one level, given what a place is worth
  have level : ∀ (day : Nat), day < n → ∀ (f : Nat → Nat), (∀ k, k < day → f k < bN B ∧ st (f k) ≠ 0) → ∀ (val : Nat → Nat) (c : Nat) (M0 : mw),
      (∀ p, p < bN B → okR st day f p = true → ∀ (c1 : Nat) (M1 : mw), frR day M0 M1 → MB B M1 → MRw st tl M1 → (∀ k, k < day → M1.1 77 k = nI (f k)) → M1.1 77 day = nI p →
        (∀ M2, frR (day + 1) M1 M2 → ∀ {o1 o5 : Option Value}, T_rows Q 114 [some (.ref 0), o1, some (.int (nI n)), some (.int (nI (c1 + val p))), some (.int (nI day)), o5] [] M2) →
        ∀ {o1 o5 : Option Value}, ((¬ (nI day = nI n - 1) → (vp_in (nI day + 1) 8 ∧ T_rows Q 114 [some (.ref 0), o1, some (.int (nI n)), some (.int (nI c1)), some (.int (nI day + 1)), o5] [] (mM_up M1 77 (Int32.toNatClampNeg (nI day + 1)) (-1)))) ∧ (¬ ¬ (nI day = nI n - 1) → V_endsAlike [.ref 0, .int (nI n)] M1 (fun v M2 => T_rows Q 169 [some (.ref 0), o1, some (.int (nI n)), some (.int (nI c1)), some (.int (nI day)), o5] (v.toList ++ []) M2)))) →
      (∀ M', frR day M0 M' → ∀ {o1 o5 : Option Value}, T_rows Q 114 [some (.ref 0), o1, some (.int (nI n)), some (.int (nI (c + smP (fun p => if okR st day f p = true then val p else 0) (bN B)))), some (.int (nI day + -1)), o5] [] M') →
      ∀ (fu b : Nat) (M : mw), bN B - b = fu → b ≤ bN B → frR day M0 M → MB B M → MRw st tl M → (∀ k, k < day → M.1 77 k = nI (f k)) → M.1 77 day + 1 = nI b →
      ∀ {o1 o5 : Option Value}, T_rows Q 114 [some (.ref 0), o1, some (.int (nI n)), some (.int (nI (c + smP (fun p => if okR st day f p = true then val p else 0) b))), some (.int (nI day)), o5] [] M := by
    intro day hd f hf val c M0 ev cont fu
    induction fu using Nat.strongRecOn with
    | _ fu ih =>
      intro b M hfu hb fM hM hR h77 hx o1 o5
      refine r_rows_114 ⟨fun z => ?_, fun _ => ?_⟩
      · have z0 : (0 : Int32) = nI 0 := rfl
        rw [z0, n_lt (by omega) (by omega)] at z; omega
      rw [n_tn (by omega)]
      refine ⟨(n_in (by omega)).mpr (by omega), ?_⟩
      refine s_nextStone hN hK hM hs hR (by omega) (fun k hk => ⟨(hf k hk).1, h77 k hk⟩) hx hb ?_
      refine r_rows_138 ?_
      rw [n_tn (by omega)]
      refine ⟨(n_in (by omega)).mpr (by omega), (n_in (by omega)).mpr (by omega), ?_⟩
      rw [show ∀ v : Int32, (mM_up M 77 day v).1 77 day = v from fun v => by rw [m_up, if_pos ⟨rfl, rfl⟩]]
      have fz := fun v => frR_trans fM (frR_77 (day := day) M v (Nat.le_refl day))
      have f7 : ∀ v : Int32, fr 77 77 M (mM_up M 77 day v) := fun v => fr_up M _ _ (by omega)
      rcases fstP_ex (f := fun p => decide (b ≤ p) && okR st day f p) (n := bN B) with ⟨e, no⟩ | ⟨p, e, hp, yes, no⟩
      · rw [e]
        refine ⟨fun z => absurd rfl z, fun _ => ?_⟩
        have e2 : smP (fun p => if okR st day f p = true then val p else 0) (bN B) = smP (fun p => if okR st day f p = true then val p else 0) b := smP_skip hb (fun u h1 h2 => by
          have := no u h2
          rw [decide_eq_true h1, Bool.true_and] at this
          rw [this]; rfl)
        rw [← e2]
        exact cont _ (fz _)
      · rw [e]
        rw [Bool.and_eq_true, decide_eq_true_eq] at yes
        have ep : plI (some p) = nI p := rfl
        rw [ep]
        have nm : ¬ (nI p = (-1 : Int32)) := fun z => by
          have := (n_eqg (a := p) (b := 1) (by omega) (by omega)).mp z; omega
        refine ⟨fun _ => ?_, fun z => absurd nm z⟩
        have e2 : smP (fun p => if okR st day f p = true then val p else 0) p = smP (fun p => if okR st day f p = true then val p else 0) b := smP_skip yes.1 (fun u h1 h2 => by
          have := no u h2
          rw [decide_eq_true h1, Bool.true_and] at this
          rw [this]; rfl)
        have e3 : smP (fun p => if okR st day f p = true then val p else 0) (p + 1) = smP (fun p => if okR st day f p = true then val p else 0) b + val p := by
          conv => lhs; unfold smP
          rw [e2, yes.2]; rfl
        refine ev p hp yes.2 _ _ (fz _) (MB_fr (f7 _) (by omega) hM) (MRw_fr (f7 _) (by omega) hR) (fun k hk => by rw [m_up, if_neg (by omega)]; exact h77 k hk) (by rw [m_up, if_pos ⟨rfl, rfl⟩]) (fun M2 f2 => ?_)
        intro o1 o5
        have f2' := frR_dn f2 (Nat.le_succ day)
        have a77 : M2.1 77 day = nI p := by rw [f2.2.2.2.2 day (by omega), m_up, if_pos ⟨rfl, rfl⟩]
        rw [Nat.add_assoc, ← e3]
        refine ih (bN B - (p + 1)) (by omega) (p + 1) M2 rfl (by omega) (frR_trans (fz _) f2') (MB_frG f2.1 (MB_fr (f7 _) (by omega) hM)) ?_ ?_ ?_
        · intro u hu
          rw [f2.2.2.1, f2.2.2.2.1]
          exact (MRw_fr (f7 _) (by omega) hR) u hu
        · intro k hk
          rw [f2'.2.2.2.2 k hk, m_up, if_neg (by omega)]; exact h77 k hk
        · rw [a77]; exact n_add p 1
  induction r with
  | zero =>
    intro day hd f hf c M0 cont b M hb fM hM hR h77 hx o1 o5
    refine level day (by omega) f hf (fun p => rwC B st tl 0 (day + 1) (upN f day p)) c M0 (fun p hp hok c1 M1 f1 hM1 hR1 k77 a77 nx => ?_) cont (bN B - b) b M rfl hb fM hM hR h77 hx
    intro o1 o5
    have en : nI n - 1 = nI day := by rw [show (1 : Int32) = nI 1 from rfl, n_sub (by omega)]; congr 1; omega
    rw [en]
    refine ⟨fun z => absurd rfl z, fun _ => ?_⟩
    unfold okR at hok
    simp only [Bool.and_eq_true, decide_eq_true_eq] at hok
    have ec : rwS B st (upN f day p) (day + 1) = rwS B st (upN f day p) n := by rw [show day + 1 = n from by omega]
    refine s_endsAlike (f := upN f day p) hB hM1 hs ht hR1 hn (fun k hk => ?_) (fun k hk => ?_) (fun M2 f2 => r_rows_169 ?_)
    · unfold upN
      by_cases e : k = day
      · rw [if_pos e]; exact ⟨hp, by omega⟩
      · rw [if_neg e]; exact hf k (by omega)
    · unfold upN
      by_cases e : k = day
      · rw [if_pos e, e]; exact a77
      · rw [if_neg e]; exact k77 k (by omega)
    have nx := fun {o1 o5} => nx M2 (frR_of (day + 1) f2 (by omega)) (o1 := o1) (o5 := o5)
    unfold rwC at nx
    rw [ec] at nx
    refine ⟨fun z => ?_, fun z => ?_⟩
    · rw [bI_e0 z] at nx; exact nx
    · rw [bI_n0 z] at nx
      rw [show nI c1 + 1 = nI (c1 + 1) from n_add c1 1]; exact nx
  | succ r ih =>
    intro day hd f hf c M0 cont b M hb fM hM hR h77 hx o1 o5
    refine level day (by omega) f hf (fun p => rwC B st tl (r + 1) (day + 1) (upN f day p)) c M0 (fun p hp hok c1 M1 f1 hM1 hR1 k77 a77 nx => ?_) cont (bN B - b) b M rfl hb fM hM hR h77 hx
    intro o1 o5
    have en : ¬ (nI day = nI n - 1) := fun z => by
      rw [show nI n - 1 = nI (n - 1) from n_sub (b := 1) (by omega), n_eq (by omega) (by omega)] at z; omega
    refine ⟨fun _ => ?_, fun z => absurd en z⟩
    have ed : nI day + 1 = nI (day + 1) := n_add day 1
    rw [ed, n_tn (by omega)]
    refine ⟨(n_in (by omega)).mpr (by omega), ?_⟩
    unfold okR at hok
    simp only [Bool.and_eq_true, decide_eq_true_eq] at hok
    have f7 : fr 77 77 M1 (mM_up M1 77 (day + 1) (-1)) := fr_up M1 _ _ (by omega)
    have start := ih (day + 1) (by omega) (upN f day p) (fun k hk => ?_) c1 M1 (fun M' f' {o1 o5} => ?_) 0 (mM_up M1 77 (day + 1) (-1)) (by omega) (frR_77 M1 _ (Nat.le_refl _)) (MB_fr f7 (by omega) hM1) (MRw_fr f7 (by omega) hR1) (fun k hk => ?_) ?_ (o1 := o1) (o5 := o5)
    · exact start
    · unfold upN
      by_cases e : k = day
      · rw [if_pos e]; exact ⟨hp, by omega⟩
      · rw [if_neg e]; exact hf k (by omega)
    · have e1 : nI (day + 1) + -1 = nI day := n_subneg (b := 1) (by omega)
      rw [e1]
      have nx := fun {o1 o5} => nx M' f' (o1 := o1) (o5 := o5)
      unfold rwC at nx
      exact nx
    · rw [m_up, if_neg (by omega)]
      unfold upN
      by_cases e : k = day
      · rw [if_pos e, e]; exact a77
      · rw [if_neg e]; exact k77 k (by omega)
    · rw [m_up, if_pos ⟨rfl, rfl⟩]; decide
noncomputable def rowsR (B : Bd) (s : GS) : Nat := rwC B (gS s) (gL s) (rowN B s) 0 (fun _ => 0)
theorem s_rows {Q : Option Value → mw → Prop} {M : mw} {B : Bd} {s : GS} (hB : bOk B ∨ bN B = 0) (hK : bK B ≤ 5) (hM : MB B M) (hG : MG s M) (hg : gOk B s)
    (q0 : ¬ rowOk B s → Q (some (.int (-nI 1))) M) (q1 : rowOk B s → ∀ M', frG M M' → MG s M' → Q (some (.int (nI (rowsR B s)))) M') : V_rows [.ref 0] M Q := by
  have hN : bN B ≤ 36 := bN36 hB
  have h12 := s12 hK hg.1
  have h16 := hg.2.2.2.2.2.1
  have c0 := stonesG_le B (gS s) (some 0) none
  have c1 := stonesG_le B (gS s) (some 1) none
  refine e_rows (r_rows_0 (s_stonesOf hN hM (MG_MS hG) h12 (some 0) none (fun x h => by cases h; omega) (fun x h => by cases h) (r_rows_6 (s_stonesOf hN hM (MG_MS hG) h12 (some 1) none (fun x h => by cases h; omega) (fun x h => by cases h) (r_rows_14 ?_)))))
  have en : nI (stonesG B (gS s) (some 0) none) + nI (stonesG B (gS s) (some 1) none) = nI (rowN B s) := n_add _ _
  rw [en]
  have hrn : rowN B s ≤ 72 := by unfold rowN; omega
  refine isIn_v (nI (rowN B s)) 1 8 _ _ rfl rfl (by omega) (by omega) (r_rows_25 ?_)
  rw [n_T (by omega)]
  have e2 : (nI (rowN B s) + 1) / 2 = nI ((rowN B s + 1) / 2) := by
    rw [show nI (rowN B s) + 1 = nI (rowN B s + 1) from n_add _ 1]; exact n_div (b := 2) (by omega) (by omega)
  rw [e2]
  refine ⟨fun c => ⟨trivial, q0 (fun z => ?_)⟩, fun c => ⟨by decide, ?_⟩⟩
  · have := bI_e0 c
    rw [decide_eq_false_iff_not] at this
    have z1 := z.1
    have z2 := z.2.1
    omega
  have c3 := bI_n0 c
  rw [decide_eq_true_eq] at c3
  rw [n_eq (by omega) (by omega)]
  refine ⟨fun c4 => ?_, fun c4 => ⟨trivial, q0 (fun z => c4 z.2.2)⟩⟩
  have ok : rowOk B s := ⟨by omega, by omega, c4⟩
  have q := q1 ok
  have hB : bOk B := by
    rcases hB with h | h
    · exact h
    · exfalso
      rw [h] at c0 c1
      have : rowN B s = 0 := by unfold rowN; omega
      omega
  unfold rowsR at q
  generalize hn : rowN B s = n at *
  refine kk_keeps (l := 4) (by omega) h16 hG (fun M1 f1 k1 _ => r_rows_44 ?_)
  refine upTo 36 (fun p (M2 : mw) => frG M M2 ∧ MG s M2 ∧ MK 4 s M2 ∧ ∀ u, u < p → M2.1 78 u = nI (gS s u) ∧ M2.1 79 u = nI (gL s u)) (fun p M2 => ∀ {o1 o4 o5 : Option Value}, T_rows Q 46 [some (.ref 0), o1, some (.int (nI n)), some (.int (nI p)), o4, o5] [] M2) ?_ ?_ 0 M1 (by omega) ⟨frG_of f1 (by omega), MG_fr f1 (by omega) hG, k1, fun u hu => by omega⟩
  · intro M2 ⟨f2, g2, k2, z2⟩ o1 o4 o5
    refine r_rows_46 ⟨fun _ => ?_, fun z => absurd (by decide) z⟩
    refine upTo 8 (fun k (M3 : mw) => frG M M3 ∧ MK 4 s M3 ∧ MRw (gS s) (gL s) M3 ∧ ∀ u, u < k → M3.1 77 u = -1) (fun k M3 => ∀ {o1 : Option Value}, T_rows Q 93 [some (.ref 0), o1, some (.int (nI n)), some (.int (nI 0)), some (.int (nI 0)), some (.int (nI k))] [] M3) ?_ ?_ 0 M2 (by omega) ⟨f2, k2, fun u hu => z2 u hu, fun u hu => by omega⟩
    · intro M3 ⟨f3, k3, r3, z3⟩ o1
      refine r_rows_93 ⟨fun _ => ?_, fun z => absurd (by decide) z⟩
      have start := rw_loop (Q := Q) hB hg.1 hg.2.2.1 (n := n) (by omega) (n - 1) 0 (by omega) (fun _ => 0) (fun k hk => by omega) 0 M3 (fun M4 f4 {o1 o5} => ?_) 0 M3 (by omega) (frR_refl _ _) (MB_frG f3 hM) r3 (fun k hk => by omega) (by rw [z3 0 (by omega)]; decide) (o1 := none) (o5 := some (.int (nI 8)))
      · exact start
      · have e1 : (nI 0 + -1 : Int32) = -1 := by decide
        rw [e1]
        refine r_rows_114 ⟨fun _ => ?_, fun z => absurd (by decide) z⟩
        refine kk_back (l := 4) (by omega) h16 (f4.2.1 s h16 k3) (fun M5 f5 g5 => r_rows_197 ⟨trivial, ?_⟩)
        have q := q M5 (frG_then (frG_trans f3 f4.1) f5 (by omega)) g5
        rw [Nat.zero_add]
        rw [show n = n - 1 + 1 from by omega] at q
        unfold rwC at q
        exact q
    · intro k M3 hk ⟨f3, k3, r3, z3⟩ next o1
      refine r_rows_93 ?_
      (try simp +decide (disch := omega) only [n_lit2, n_add, n_mul, n_tn, n_inT, n_ltT, n_ltF, n_leT, n_leF, n_eqT, n_eqF, n_eqm, n_meq, n_div, n_rem, nb_0, nb_1, nr_b, true_and, and_true, eq_self, Decidable.not_not, not_false_eq_true, not_true_eq_false, false_implies, true_implies, implies_true, Option.toList_some, Option.toList_none, List.cons_append, List.nil_append]); (try simp (disch := omega) only [lc_eq, lc_le, lc_lt, lc_ge, lc_gt, mb_t1, mb_t0, bI_0, bI_1, n_in, n_lt, n_le, n_eq, Bool.not_eq_false, Bool.not_eq_true, Decidable.not_not, true_and])
      have f7 : fr 77 77 M3 (mM_up M3 77 k (-nI 1)) := fr_up M3 _ _ (by omega)
      refine next _ ⟨frG_then f3 f7 (by omega), MK_fr f7 (by omega) k3, MRw_fr f7 (by omega) r3, fun u hu => ?_⟩
      rw [m_up]
      by_cases e : u = k
      · rw [if_pos ⟨rfl, e⟩]; rfl
      · rw [if_neg (by omega)]; exact z3 u (by omega)
  · intro p M2 hp ⟨f2, g2, k2, z2⟩ next o1 o4 o5
    refine r_rows_46 ?_
    have r1 := g2.1 p hp
    have r2 := g2.2.1 p hp
    have r3 : (mM_up M2 78 p (nI (gS s p))).1 56 (36 + p) = nI (gL s p) := by rw [m_up, if_neg (by omega)]; exact r2
    (try simp +decide (disch := omega) only [n_lit2, n_add, n_mul, n_tn, n_inT, n_ltT, n_ltF, n_leT, n_leF, n_eqT, n_eqF, n_eqm, n_meq, n_div, n_rem, nb_0, nb_1, nr_b, true_and, and_true, eq_self, Decidable.not_not, not_false_eq_true, not_true_eq_false, false_implies, true_implies, implies_true, Option.toList_some, Option.toList_none, List.cons_append, List.nil_append, r1, r3]); (try simp (disch := omega) only [lc_eq, lc_le, lc_lt, lc_ge, lc_gt, mb_t1, mb_t0, bI_0, bI_1, n_in, n_lt, n_le, n_eq, Bool.not_eq_false, Bool.not_eq_true, Decidable.not_not, true_and, r1, r3])
    have f7 : fr 78 79 M2 (mM_up (mM_up M2 78 p (nI (gS s p))) 79 p (nI (gL s p))) := fr_trans (fr_up (lo := 78) (hi := 79) M2 _ _ (by omega)) (fr_up (lo := 78) (hi := 79) _ _ _ (by omega)) (by omega) (by omega)
    refine next _ ⟨frG_then f2 f7 (by omega), MG_fr f7 (by omega) g2, MK_fr f7 (by omega) k2, fun u hu => ⟨?_, ?_⟩⟩
    · rw [m_up, if_neg (by omega), m_up]
      by_cases e : u = p
      · rw [if_pos ⟨rfl, e⟩, e]
      · rw [if_neg (by omega)]; exact (z2 u (by omega)).1
    · rw [m_up]
      by_cases e : u = p
      · rw [if_pos ⟨rfl, e⟩, e]
      · rw [if_neg (by omega), m_up, if_neg (by omega)]; exact (z2 u (by omega)).2
