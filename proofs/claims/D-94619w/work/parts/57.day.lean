/-! a state of the game: stones, land, changes, the day, what is owed -/
abbrev GS : Type := (Nat → Nat) × (Nat → Nat) × (Nat → Int32) × Nat × List Int64
abbrev gS (s : GS) : Nat → Nat := s.1
abbrev gL (s : GS) : Nat → Nat := s.2.1
abbrev gC (s : GS) : Nat → Int32 := s.2.2.1
abbrev gD (s : GS) : Nat := s.2.2.2.1
abbrev gO (s : GS) : List Int64 := s.2.2.2.2
def gOk (B : Bd) (s : GS) : Prop := sOk B (gS s) ∧ (∀ p, bN B ≤ p → gS s p = 0) ∧ (∀ p, gL s p ≤ 2) ∧ (∀ p, bN B ≤ p → gL s p = 0) ∧ gD s ≤ 200 ∧ (gO s).length ≤ 16 ∧ (∀ o, o ∈ gO s → ∀ p, mb o p = true → p < bN B) ∧ (gO s).Pairwise (fun a b => ∀ p, ¬ (mb a p = true ∧ mb b p = true))
def MGv (s : GS) (f : Nat → Int32) (g : Nat → Int64) : Prop := (∀ p, p < 36 → f p = nI (gS s p)) ∧ (∀ p, p < 36 → f (36 + p) = nI (gL s p)) ∧ (∀ p, p < 36 → f (72 + p) = gC s p) ∧ f 108 = nI (gD s) ∧ f 109 = nI (gO s).length ∧ lsL (gO s) g
abbrev MG (s : GS) (M : mw) : Prop := MGv s (M.1 56) (M.2 57)
theorem MGv_cong {s : GS} {f f' : Nat → Int32} {g g' : Nat → Int64} (h : MGv s f g) (hl : (gO s).length ≤ 16) (hf : ∀ i, i < 110 → f' i = f i) (hg : ∀ i, i < 16 → g' i = g i) : MGv s f' g' := by
  obtain ⟨h1, h2, h3, h4, h5, h6⟩ := h
  refine ⟨fun p hp => ?_, fun p hp => ?_, fun p hp => ?_, ?_, ?_, fun k v hv => ?_⟩
  · rw [hf p (by omega)]; exact h1 p hp
  · rw [hf _ (by omega)]; exact h2 p hp
  · rw [hf _ (by omega)]; exact h3 p hp
  · rw [hf _ (by omega)]; exact h4
  · rw [hf _ (by omega)]; exact h5
  · have hk : k < (gO s).length := by
      rcases Nat.lt_or_ge k (gO s).length with h | h
      · exact h
      · rw [List.getElem?_eq_none h] at hv; cases hv
    rw [hg k (by omega)]; exact h6 k v hv
theorem MG_MS {s : GS} {M : mw} (h : MG s M) : MS (gS s) M := h.1
theorem MG_fr {lo hi : Nat} {M M' : mw} {s : GS} (h : fr lo hi M M') (h1 : 58 ≤ lo ∨ hi < 56) (g : MG s M) : MG s M' := by
  show MGv s (M'.1 56) (M'.2 57)
  rw [(h 56 (by omega)).1, (h 57 (by omega)).2]; exact g
theorem MB_fr2 {lo hi : Nat} {M M' : mw} {B : Bd} (h : fr lo hi M M') (h1 : 53 ≤ lo ∨ hi < 35) (hM : MB B M) : MB B M' := by
  obtain ⟨a1, a2, a3, a4, a5, a6⟩ := hM
  refine ⟨?_, ?_, ?_, ?_, ?_, ?_⟩
  · rw [(h 35 (by omega)).1]; exact a1
  · rw [(h 36 (by omega)).1]; exact a2
  · rw [(h 37 (by omega)).1]; exact a3
  · rw [(h 39 (by omega)).1]; exact a4
  · rw [(h 40 (by omega)).1]; exact a5
  · rw [(h 52 (by omega)).1]; exact a6
def upN (f : Nat → Nat) (p v : Nat) : Nat → Nat := fun u => if u = p then v else f u
def upC (f : Nat → Int32) (p : Nat) (v : Int32) : Nat → Int32 := fun u => if u = p then v else f u
theorem m_up (M : mw) (k i : Nat) (v : Int32) (k' i' : Nat) : (mM_up M k i v).1 k' i' = if k' = k ∧ i' = i then v else M.1 k' i' := rfl
theorem m_up2 (M : mw) (k i : Nat) (v : Int32) : (mM_up M k i v).2 = M.2 := rfl
theorem m_upl (M : mw) (k i : Nat) (v : Int64) (k' i' : Nat) : (mM_upl M k i v).2 k' i' = if k' = k ∧ i' = i then v else M.2 k' i' := rfl
theorem m_upl2 (M : mw) (k i : Nat) (v : Int64) : (mM_upl M k i v).1 = M.1 := rfl
theorem MG_upS {s : GS} {M : mw} {p : Nat} (v : Nat) (h : MG s M) (hp : p < 36) : MG (upN (gS s) p v, gL s, gC s, gD s, gO s) (mM_up M 56 p (nI v)) := by
  obtain ⟨h1, h2, h3, h4, h5, h6⟩ := h
  refine ⟨fun u hu => ?_, fun u hu => ?_, fun u hu => ?_, ?_, ?_, h6⟩
  · rw [m_up]; show _ = nI (if u = p then v else gS s u)
    by_cases e : u = p
    · simp [e]
    · simp [e, h1 u hu]
  · rw [m_up, if_neg (by omega)]; exact h2 u hu
  · rw [m_up, if_neg (by omega)]; exact h3 u hu
  · rw [m_up, if_neg (by omega)]; exact h4
  · rw [m_up, if_neg (by omega)]; exact h5
theorem MG_upL {s : GS} {M : mw} {p : Nat} (v : Nat) (h : MG s M) (hp : p < 36) : MG (gS s, upN (gL s) p v, gC s, gD s, gO s) (mM_up M 56 (36 + p) (nI v)) := by
  obtain ⟨h1, h2, h3, h4, h5, h6⟩ := h
  refine ⟨fun u hu => ?_, fun u hu => ?_, fun u hu => ?_, ?_, ?_, h6⟩
  · rw [m_up, if_neg (by omega)]; exact h1 u hu
  · rw [m_up]; show _ = nI (if u = p then v else gL s u)
    by_cases e : u = p
    · simp [e]
    · rw [if_neg (by omega), if_neg e]; exact h2 u hu
  · rw [m_up, if_neg (by omega)]; exact h3 u hu
  · rw [m_up, if_neg (by omega)]; exact h4
  · rw [m_up, if_neg (by omega)]; exact h5
theorem MG_upC {s : GS} {M : mw} {p : Nat} (v : Int32) (h : MG s M) (hp : p < 36) : MG (gS s, gL s, upC (gC s) p v, gD s, gO s) (mM_up M 56 (72 + p) v) := by
  obtain ⟨h1, h2, h3, h4, h5, h6⟩ := h
  refine ⟨fun u hu => ?_, fun u hu => ?_, fun u hu => ?_, ?_, ?_, h6⟩
  · rw [m_up, if_neg (by omega)]; exact h1 u hu
  · rw [m_up, if_neg (by omega)]; exact h2 u hu
  · rw [m_up]; show _ = (if u = p then v else gC s u)
    by_cases e : u = p
    · simp [e]
    · rw [if_neg (by omega), if_neg e]; exact h3 u hu
  · rw [m_up, if_neg (by omega)]; exact h4
  · rw [m_up, if_neg (by omega)]; exact h5
theorem MG_upD {s : GS} {M : mw} (v : Nat) (h : MG s M) : MG (gS s, gL s, gC s, v, gO s) (mM_up M 56 108 (nI v)) := by
  obtain ⟨h1, h2, h3, h4, h5, h6⟩ := h
  refine ⟨fun u hu => ?_, fun u hu => ?_, fun u hu => ?_, ?_, ?_, h6⟩
  · rw [m_up, if_neg (by omega)]; exact h1 u hu
  · rw [m_up, if_neg (by omega)]; exact h2 u hu
  · rw [m_up, if_neg (by omega)]; exact h3 u hu
  · rw [m_up, if_pos (by omega)]
  · rw [m_up, if_neg (by omega)]; exact h5
theorem MG_upO {s : GS} {M : mw} (L : List Int64) (h : MG s M) (hL : lsL L (M.2 57)) : MG (gS s, gL s, gC s, gD s, L) (mM_up M 56 109 (nI L.length)) := by
  obtain ⟨h1, h2, h3, h4, h5, h6⟩ := h
  refine ⟨fun u hu => ?_, fun u hu => ?_, fun u hu => ?_, ?_, ?_, hL⟩
  · rw [m_up, if_neg (by omega)]; exact h1 u hu
  · rw [m_up, if_neg (by omega)]; exact h2 u hu
  · rw [m_up, if_neg (by omega)]; exact h3 u hu
  · rw [m_up, if_neg (by omega)]; exact h4
  · rw [m_up, if_pos (by omega)]
theorem lsL_get {L : List Int64} {f : Nat → Int64} (h : lsL L f) {k : Nat} (hk : k < L.length) : f k = L.getD k 0 := by
  refine h k _ ?_
  rw [List.getD_eq_getElem?_getD, List.getElem?_eq_getElem hk]; rfl
theorem lsL_nil (f : Nat → Int64) : lsL [] f := fun k v h => by simp at h
/-- what is owed is lost -/
def hitG (pl : Option Nat) (o : Int64) : Bool := match pl with
  | none => false
  | some p => mb o p
def plI (pl : Option Nat) : Int32 := match pl with
  | none => -1
  | some p => nI p
def lz1 (N to : Nat) (o : Int64) (l : Nat → Nat) : Nat → Nat := fun p => if p < N ∧ mb o p = true then to else l p
def lzc (N to : Nat) (o : Int64) (l : Nat → Nat) (c : Nat → Int32) : Nat → Int32 := fun p => if p < N ∧ mb o p = true ∧ l p ≠ to then c p + 1 else c p
def lzs (N to : Nat) (pl : Option Nat) (O : List Int64) (l : Nat → Nat) (c : Nat → Int32) : Nat → (Nat → Nat) × (Nat → Int32)
  | 0 => (l, c)
  | k + 1 => if hitG pl (O.getD k 0) = true then lzs N to pl O l c k else (lz1 N to (O.getD k 0) (lzs N to pl O l c k).1, lzc N to (O.getD k 0) (lzs N to pl O l c k).1 (lzs N to pl O l c k).2)
def lzA (B : Bd) (s : GS) (pl : Option Nat) : (Nat → Nat) × (Nat → Int32) := lzs (bN B) (2 - gD s % 2) pl (gO s) (gL s) (gC s) (gO s).length
theorem lz1_0 (to : Nat) (o : Int64) (l : Nat → Nat) : lz1 0 to o l = l := by
  funext p; unfold lz1; rw [if_neg (by omega)]
theorem lzc_0 (to : Nat) (o : Int64) (l : Nat → Nat) (c : Nat → Int32) : lzc 0 to o l c = c := by
  funext p; unfold lzc; rw [if_neg (by omega)]
theorem lz1_no {N to : Nat} {o : Int64} {l : Nat → Nat} (h : mb o N = false) : lz1 (N + 1) to o l = lz1 N to o l := by
  funext p; unfold lz1
  by_cases e : p = N
  · subst e; simp [h]
  · have : p < N + 1 ↔ p < N := by omega
    simp [this]
theorem lzc_no {N to : Nat} {o : Int64} {l : Nat → Nat} {c : Nat → Int32} (h : mb o N = false ∨ l N = to) : lzc (N + 1) to o l c = lzc N to o l c := by
  funext p; unfold lzc
  by_cases e : p = N
  · subst e; rcases h with h | h <;> simp [h]
  · have : p < N + 1 ↔ p < N := by omega
    simp [this]
theorem lz1_same {N to : Nat} {o : Int64} {l : Nat → Nat} (h : l N = to) : lz1 (N + 1) to o l = lz1 N to o l := by
  funext p; unfold lz1
  by_cases e : p = N
  · subst e; simp [h]
  · have : p < N + 1 ↔ p < N := by omega
    simp [this]
theorem lz1_up {N to : Nat} {o : Int64} {l : Nat → Nat} (h : mb o N = true) : lz1 (N + 1) to o l = upN (lz1 N to o l) N to := by
  funext p; unfold lz1 upN
  by_cases e : p = N
  · subst e; simp [h]
  · have : p < N + 1 ↔ p < N := by omega
    simp [this, e]
theorem lzc_up {N to : Nat} {o : Int64} {l : Nat → Nat} {c : Nat → Int32} (h : mb o N = true) (h2 : l N ≠ to) : lzc (N + 1) to o l c = upC (lzc N to o l c) N (c N + 1) := by
  funext p; unfold lzc upC
  by_cases e : p = N
  · subst e; simp [h, h2]
  · have : p < N + 1 ↔ p < N := by omega
    simp [this, e]
theorem lz1_at (N to : Nat) (o : Int64) (l : Nat → Nat) : lz1 N to o l N = l N := by unfold lz1; rw [if_neg (by omega)]
theorem lzc_at (N to : Nat) (o : Int64) (l : Nat → Nat) (c : Nat → Int32) : lzc N to o l c N = c N := by unfold lzc; rw [if_neg (by omega)]
theorem lz1_le {N to : Nat} {o : Int64} {l : Nat → Nat} (h : ∀ p, l p ≤ 2) (ht : to ≤ 2) (p : Nat) : lz1 N to o l p ≤ 2 := by
  unfold lz1; split
  · exact ht
  · exact h p
theorem lzs_le {N to : Nat} {pl : Option Nat} {O : List Int64} {l : Nat → Nat} {c : Nat → Int32} (h : ∀ p, l p ≤ 2) (ht : to ≤ 2) (k p : Nat) : (lzs N to pl O l c k).1 p ≤ 2 := by
  induction k generalizing p with
  | zero => exact h p
  | succ k ih =>
    unfold lzs; split
    · exact ih p
    · exact lz1_le ih ht p
theorem lzs_out {N to : Nat} {pl : Option Nat} {O : List Int64} {l : Nat → Nat} {c : Nat → Int32} {p : Nat} (h : N ≤ p) (k : Nat) : (lzs N to pl O l c k).1 p = l p := by
  induction k with
  | zero => rfl
  | succ k ih =>
    unfold lzs; split
    · exact ih
    · show lz1 _ _ _ _ p = _
      unfold lz1; rw [if_neg (by omega)]; exact ih
theorem s_loses {Q : Option Value → mw → Prop} {M : mw} {B : Bd} {s : GS} (hB : bN B ≤ 36) (hM : MB B M) (hG : MG s M) (hg : gOk B s) (pl : Option Nat) (hp : ∀ p, pl = some p → p < 36)
    (q : ∀ M', fr 56 56 M M' → MG (gS s, (lzA B s pl).1, (lzA B s pl).2, gD s, []) M' → Q none M') : V_loses [.ref 0, .int (plI pl)] M Q := by
  obtain ⟨-, -, gl, -, gd, gn, -, -⟩ := hg
  have hto : 2 - gD s % 2 ≤ 2 := by omega
  refine e_loses (r_loses_0 (s_todays hG.2.2.2.1 (by omega) (r_loses_5 ?_)))
  rw [show (2 : Int32) - nI (gD s % 2) = nI (2 - gD s % 2) from n_sub (a := 2) (by omega)]
  have e109 : Int32.toNatClampNeg 109 = 109 := by decide
  have main := upTo (gO s).length (fun k (M1 : mw) => fr 56 56 M M1 ∧ MG (gS s, (lzs (bN B) (2 - gD s % 2) pl (gO s) (gL s) (gC s) k).1, (lzs (bN B) (2 - gD s % 2) pl (gO s) (gL s) (gC s) k).2, gD s, gO s) M1)
    (fun k M1 => ∀ {o4 : Option Value}, T_loses Q 9 [some (.ref 0), some (.int (plI pl)), some (.int (nI (2 - gD s % 2))), some (.int (nI k)), o4] [] M1) ?_ ?_
  · exact main 0 M (by omega) ⟨fr_refl _ _ _, hG⟩
  · intro M1 ⟨f1, g1⟩ o4
    refine r_loses_9 ?_
    have r9 : M1.1 56 109 = nI (gO s).length := g1.2.2.2.2.1
    rw [e109, r9]
    (try simp +decide (disch := omega) only [n_lit2, n_add, n_mul, n_tn, n_inT, n_ltT, n_ltF, n_leT, n_leF, n_eqT, n_eqF, n_eqm, n_meq, n_div, n_rem, nb_0, nb_1, nr_b, true_and, and_true, eq_self, Decidable.not_not, not_false_eq_true, not_true_eq_false, false_implies, true_implies, implies_true, Option.toList_some, Option.toList_none, List.cons_append, List.nil_append]); (try simp (disch := omega) only [lc_eq, lc_le, lc_lt, lc_ge, lc_gt, mb_t1, mb_t0, bI_0, bI_1, n_in, n_lt, n_le, n_eq, Bool.not_eq_false, Bool.not_eq_true, Decidable.not_not, true_and])
    refine q _ (fr_trans f1 (fr_up (lo := 56) (hi := 56) (k := 56) M1 _ _ (by omega)) (by omega) (by omega)) ?_
    exact MG_upO [] g1 (lsL_nil _)
  · intro k M1 hk ⟨f1, g1⟩ next o4
    have hM1 := MB_fr f1 (by omega) hM
    have eo : M1.2 57 k = (gO s).getD k 0 := lsL_get g1.2.2.2.2.2 hk
    refine r_loses_9 ?_
    have r9 : M1.1 56 109 = nI (gO s).length := g1.2.2.2.2.1
    rw [e109, r9]
    (try simp +decide (disch := omega) only [n_lit2, n_add, n_mul, n_tn, n_inT, n_ltT, n_ltF, n_leT, n_leF, n_eqT, n_eqF, n_eqm, n_meq, n_div, n_rem, nb_0, nb_1, nr_b, true_and, and_true, eq_self, Decidable.not_not, not_false_eq_true, not_true_eq_false, false_implies, true_implies, implies_true, Option.toList_some, Option.toList_none, List.cons_append, List.nil_append]); (try simp (disch := omega) only [lc_eq, lc_le, lc_lt, lc_ge, lc_gt, mb_t1, mb_t0, bI_0, bI_1, n_in, n_lt, n_le, n_eq, Bool.not_eq_false, Bool.not_eq_true, Decidable.not_not, true_and])
    generalize hoo : (gO s).getD k 0 = o at *
    -- the walk over the places of one part
    have inner : hitG pl o = false → ∀ {o4 : Option Value}, T_loses Q 46 [some (.ref 0), some (.int (plI pl)), some (.int (nI (2 - gD s % 2))), some (.int (nI k)), some (.int (nI 0))] [] M1 := by
      intro hh o4
      generalize hl : (lzs (bN B) (2 - gD s % 2) pl (gO s) (gL s) (gC s) k).1 = l at *
      generalize hc : (lzs (bN B) (2 - gD s % 2) pl (gO s) (gL s) (gC s) k).2 = c at *
      have l2 : ∀ p, l p ≤ 2 := fun p => by rw [← hl]; exact lzs_le gl hto k p
      have e1 : (lzs (bN B) (2 - gD s % 2) pl (gO s) (gL s) (gC s) (k + 1)) = (lz1 (bN B) (2 - gD s % 2) o l, lzc (bN B) (2 - gD s % 2) o l c) := by
        conv => lhs; unfold lzs
        rw [hoo, hl, hc, if_neg (by rw [hh]; simp)]
      refine upTo (bN B) (fun p (M2 : mw) => fr 56 56 M M2 ∧ M2.2 57 k = o ∧ MG (gS s, lz1 p (2 - gD s % 2) o l, lzc p (2 - gD s % 2) o l c, gD s, gO s) M2)
        (fun p M2 => T_loses Q 46 [some (.ref 0), some (.int (plI pl)), some (.int (nI (2 - gD s % 2))), some (.int (nI k)), some (.int (nI p))] [] M2) ?_ ?_ 0 M1 (by omega) ⟨f1, eo, by rw [lz1_0, lzc_0]; exact g1⟩
      · intro M2 ⟨f2, o2, g2⟩
        refine r_loses_46 (s_places (MB_fr f2 (by omega) hM) (r_loses_52 ?_))
        (try simp +decide (disch := omega) only [n_lit2, n_add, n_mul, n_tn, n_inT, n_ltT, n_ltF, n_leT, n_leF, n_eqT, n_eqF, n_eqm, n_meq, n_div, n_rem, nb_0, nb_1, nr_b, true_and, and_true, eq_self, Decidable.not_not, not_false_eq_true, not_true_eq_false, false_implies, true_implies, implies_true, Option.toList_some, Option.toList_none, List.cons_append, List.nil_append]); (try simp (disch := omega) only [lc_eq, lc_le, lc_lt, lc_ge, lc_gt, mb_t1, mb_t0, bI_0, bI_1, n_in, n_lt, n_le, n_eq, Bool.not_eq_false, Bool.not_eq_true, Decidable.not_not, true_and])
        refine next M2 ⟨f2, ?_⟩
        rw [e1]; exact g2
      · intro p M2 hpN ⟨f2, o2, g2⟩ next2
        refine r_loses_46 (s_places (MB_fr f2 (by omega) hM) (r_loses_52 ?_))
        have lp := l2 p
        have r1 : M2.1 56 (36 + p) = nI (l p) := by rw [g2.2.1 p (by omega)]; congr 1; exact lz1_at _ _ _ _
        have r2 : M2.1 56 (72 + p) = c p := by rw [g2.2.2.1 p (by omega)]; exact lzc_at _ _ _ _ _
        (try simp +decide (disch := omega) only [n_lit2, n_add, n_mul, n_tn, n_inT, n_ltT, n_ltF, n_leT, n_leF, n_eqT, n_eqF, n_eqm, n_meq, n_div, n_rem, nb_0, nb_1, nr_b, true_and, and_true, eq_self, Decidable.not_not, not_false_eq_true, not_true_eq_false, false_implies, true_implies, implies_true, Option.toList_some, Option.toList_none, List.cons_append, List.nil_append, o2, r1]); (try simp (disch := omega) only [lc_eq, lc_le, lc_lt, lc_ge, lc_gt, mb_t1, mb_t0, bI_0, bI_1, n_in, n_lt, n_le, n_eq, Bool.not_eq_false, Bool.not_eq_true, Decidable.not_not, true_and, o2, r1])
        refine ⟨fun c1 => next2 M2 ⟨f2, o2, ?_⟩, fun c1 => ⟨fun c2 => ?_, fun c2 => next2 M2 ⟨f2, o2, ?_⟩⟩⟩
        · rw [lz1_no c1, lzc_no (Or.inl c1)]; exact g2
        · refine next2 _ ⟨fr_trans f2 (fr_trans (fr_up (lo := 56) (hi := 56) M2 _ _ (by omega)) (fr_up (lo := 56) (hi := 56) _ _ _ (by omega)) (lo := 56) (hi := 56) (by omega) (by omega)) (by omega) (by omega), o2, ?_⟩
          have a1 := MG_upL (p := p) (2 - gD s % 2) g2 (by omega)
          have a2 := MG_upC (p := p) (c p + 1) a1 (by omega)
          rw [lz1_up c1, lzc_up c1 c2]
          have e2 : (mM_up M2 56 (36 + p) (nI (2 - gD s % 2))).1 56 (72 + p) = c p := by rw [m_up, if_neg (by omega)]; exact r2
          rw [e2]
          exact a2
        · rw [lz1_same c2, lzc_no (Or.inr c2)]; exact g2
    cases pl with
    | none =>
      have : plI none = -nI 1 := rfl
      (try simp +decide (disch := omega) only [n_lit2, n_add, n_mul, n_tn, n_inT, n_ltT, n_ltF, n_leT, n_leF, n_eqT, n_eqF, n_eqm, n_meq, n_div, n_rem, nb_0, nb_1, nr_b, true_and, and_true, eq_self, Decidable.not_not, not_false_eq_true, not_true_eq_false, false_implies, true_implies, implies_true, Option.toList_some, Option.toList_none, List.cons_append, List.nil_append, this]); (try simp (disch := omega) only [lc_eq, lc_le, lc_lt, lc_ge, lc_gt, mb_t1, mb_t0, bI_0, bI_1, n_in, n_lt, n_le, n_eq, Bool.not_eq_false, Bool.not_eq_true, Decidable.not_not, true_and, this])
      exact inner rfl (o4 := none)
    | some p =>
      have hp36 := hp p rfl
      have : plI (some p) = nI p := rfl
      (try simp +decide (disch := omega) only [n_lit2, n_add, n_mul, n_tn, n_inT, n_ltT, n_ltF, n_leT, n_leF, n_eqT, n_eqF, n_eqm, n_meq, n_div, n_rem, nb_0, nb_1, nr_b, true_and, and_true, eq_self, Decidable.not_not, not_false_eq_true, not_true_eq_false, false_implies, true_implies, implies_true, Option.toList_some, Option.toList_none, List.cons_append, List.nil_append, this, eo]); (try simp (disch := omega) only [lc_eq, lc_le, lc_lt, lc_ge, lc_gt, mb_t1, mb_t0, bI_0, bI_1, n_in, n_lt, n_le, n_eq, Bool.not_eq_false, Bool.not_eq_true, Decidable.not_not, true_and, this, eo])
      refine ⟨fun c1 => ?_, fun c1 => next M1 ⟨f1, ?_⟩⟩
      · exact inner c1 (o4 := none)
      · have e1 : (lzs (bN B) (2 - gD s % 2) (some p) (gO s) (gL s) (gC s) (k + 1)) = lzs (bN B) (2 - gD s % 2) (some p) (gO s) (gL s) (gC s) k := by
          conv => lhs; unfold lzs
          rw [hoo, if_pos (show hitG (some p) o = true from c1)]
        rw [e1]; exact g1
