/-! what a stone does, BorderStonesModel -/
theorem MH_frG {M M' : mw} {H : List GS} (h : frG M M') (g : MH H M) : MH H M' := by
  obtain ⟨a, b, nw, c, d, e⟩ := g
  refine ⟨a, by rw [(h 71 (by omega)).1]; exact b, nw, c, by rw [(h 72 (by omega)).1]; exact d, fun k s hk => ⟨(e k s hk).1, ?_⟩⟩
  show MGv s (fun i => M'.1 69 (110 * _ + i)) (fun i => M'.2 70 (16 * _ + i))
  rw [(h 69 (by omega)).1, (h 70 (by omega)).2]; exact (e k s hk).2
theorem vld_dec (a : Int32) (n : Nat) : (0 ≤ a.toInt ∧ a.toInt < (n : Int)) = vld a n := rfl
def canP (B : Bd) (s : GS) (a b : Int32) : Prop := vld a (bK B) ∧ vld b (bN B) ∧ gS s b.toNatClampNeg = 0 ∧ gD s < 200
theorem s_canSet {Q : Option Value → mw → Prop} {M : mw} {B : Bd} {s : GS} (hN : bN B ≤ 36) (hK : bK B ≤ 5) (hM : MB B M) (hG : MG s M) (hg : gOk B s) (a b : Int32)
    (q0 : ¬ canP B s a b → Q (some (.int (nI 0))) M) (q1 : ∀ k p, k < bK B → a = nI k → p < bN B → b = nI p → gS s p = 0 → gD s < 200 → Q (some (.int (nI 1))) M) : V_canSet [.ref 0, .int a, .int b] M Q := by
  have h12 := s12 hK hg.1
  have hd := hg.2.2.2.2.1
  refine e_canSet (r_canSet_0 (s_isKind hK hM a (r_canSet_5 ⟨fun c => ⟨nr_0, q0 (fun z => ?_)⟩, fun c => ?_⟩)))
  · have := bI_e0 c
    rw [decide_eq_false_iff_not] at this; exact this z.1
  have c1 := bI_n0 c
  rw [decide_eq_true_eq] at c1
  obtain ⟨k, hk, e⟩ := vld_ex (a := a) (n := bK B) c1
  refine s_isPlace hN hM b (r_canSet_13 ⟨fun c => ⟨nr_0, q0 (fun z => ?_)⟩, fun c => ?_⟩)
  · have := bI_e0 c
    rw [decide_eq_false_iff_not] at this; exact this z.2.1
  have c2 := bI_n0 c
  rw [decide_eq_true_eq] at c2
  obtain ⟨p, hp, e2⟩ := vld_ex (a := b) (n := bN B) c2
  rw [e2]
  refine s_isFree (MG_MS hG) (fun p => by have := h12 p; omega) (by omega) (r_canSet_21 ⟨fun c => ⟨nr_0, q0 (fun z => ?_)⟩, fun c => ?_⟩)
  · have := bI_e0 c
    rw [decide_eq_false_iff_not] at this
    have z2 := z.2.2.1
    rw [e2, n_tn (by omega)] at z2; exact this z2
  have c3 := bI_n0 c
  rw [decide_eq_true_eq] at c3
  have e108 : Int32.toNatClampNeg 108 = 108 := by decide
  have r : M.1 56 108 = nI (gD s) := hG.2.2.2.1
  rw [e108, r]
  have e200 : ((200 : Int32) ≤ nI (gD s)) ↔ 200 ≤ gD s := n_le (a := 200) (by omega) (by omega)
  rw [e200]
  refine ⟨(n_in (a := 108) (by omega)).mpr (by omega), fun c4 => ⟨nr_0, q0 (fun z => ?_)⟩, fun c4 => ⟨nr_1, q1 k p hk e hp e2 c3 (by omega)⟩⟩
  have := z.2.2.2; omega
/-- what a set may be: refused, or a kind and a place (none: the side passes) -/
def setC (B : Bd) (s : GS) (a b : Int32) (r : Option (Nat × Option Nat)) : Prop := match r with
  | none => (b = -nI 1 ∧ (gD s = 200 ∨ bN B = 0)) ∨ (b ≠ -nI 1 ∧ ¬ canP B s a b)
  | some (k, none) => b = -nI 1 ∧ gD s < 200 ∧ bN B ≠ 0 ∧ k = 0
  | some (k, some p) => a = nI k ∧ b = nI p ∧ k < bK B ∧ p < bN B ∧ gS s p = 0 ∧ gD s < 200
theorem s_set {Q : Option Value → mw → Prop} {M : mw} {B : Bd} {s : GS} {H : List GS} (hB : bOk B ∨ bN B = 0) (hK : bK B ≤ 5) (hM : MB B M) (hG : MG s M) (hg : gOk B s) (hH : MH H M) (a b : Int32)
    (q0 : setC B s a b none → Q (some (.int (-nI 1))) M) (q1 : ∀ k pl, setC B s a b (some (k, pl)) → ∀ M', (∀ j, (j < 56 ∨ 72 < j) → M'.1 j = M.1 j ∧ M'.2 j = M.2 j) → MG (goG B s k pl) M' → MH ((s :: H).take 40) M' → Q (some (.int (nI (goC B s k pl)))) M') : V_set [.ref 0, .int a, .int b] M Q := by
  have hN : bN B ≤ 36 := bN36 hB
  have hd := hg.2.2.2.2.1
  have h16 := hg.2.2.2.2.2.1
  have e108 : Int32.toNatClampNeg 108 = 108 := by decide
  have r : M.1 56 108 = nI (gD s) := hG.2.2.2.1
  have go : ∀ k pl (kI : Int32), setC B s a b (some (k, pl)) → bN B ≠ 0 → (∀ p, pl = some p → kI = nI k) → V_keepsDay [.ref 0] M (fun v M1 => T_set Q 43 [some (.ref 0), some (.int kI), some (.int (plI pl))] (v.toList ++ []) M1) := by
    intro k pl kI hs hn hk
    have hB : bOk B := hB.elim id (fun h => by exfalso; exact absurd h hn)
    refine s_keepsDay h16 hG hH (fun M1 f1 h1 => r_set_43 ?_)
    refine s_sets hB (MB_fr f1 (by omega) hM) (MG_fr f1 (by omega) hG) hg (k := k) pl (fun p hp => ?_) (fun M2 f2 g2 _ => r_set_49 ⟨trivial, q1 k pl hs M2 ?_ g2 (MH_fr f2 (by omega) h1)⟩)
    · subst hp
      exact ⟨hs.2.2.2.1, hs.2.2.1, hk p rfl⟩
    · intro j hj
      have a1 := f1 j (by omega)
      have a2 := f2 j (by omega)
      exact ⟨a2.1.trans a1.1, a2.2.trans a1.2⟩
  refine e_set (r_set_0 ⟨fun c => ?_, fun c => ?_⟩)
  · refine s_canSet hN hK hM hG hg a b (fun h => r_set_34 ⟨fun c2 => absurd rfl c2, fun c2 => ⟨trivial, q0 (Or.inr ⟨c, h⟩)⟩⟩) (fun k p hk ek hp ep hf h200 => r_set_34 ⟨fun c2 => ?_, fun c2 => absurd (by decide) c2⟩)
    have := go k (some p) a ⟨ek, ep, hk, hp, hf, h200⟩ (by omega) (fun _ _ => ek)
    rw [ep]; exact this
  · have c' : b = -nI 1 := Decidable.not_not.mp c
    rw [e108, r]
    have e200 : (nI (gD s) = (200 : Int32)) ↔ gD s = 200 := n_eq (b := 200) (by omega) (by omega)
    rw [e200]
    refine ⟨(n_in (a := 108) (by omega)).mpr (by omega), fun c2 => ⟨trivial, q0 (Or.inl ⟨c', Or.inl c2⟩)⟩, fun c2 => ?_⟩
    refine s_places hM (r_set_22 ?_)
    have eN : (nI (bN B) = (0 : Int32)) ↔ bN B = 0 := n_eq (b := 0) (by omega) (by omega)
    rw [eN]
    refine ⟨fun c3 => ?_, fun c3 => ⟨trivial, q0 (Or.inl ⟨c', Or.inr (Decidable.not_not.mp c3)⟩)⟩⟩
    have := go 0 none a ⟨c', by omega, c3, rfl⟩ c3 (fun p hp => by cases hp)
    rw [c']; exact this
def hitN (O : List Int64) (p : Nat) : Nat := smP (fun k => if mb (O.getD k 0) p = true then 1 else 0) O.length
theorem hitN_le (O : List Int64) (p k : Nat) : smP (fun k => if mb (O.getD k 0) p = true then 1 else 0) k ≤ k := by
  have := smP_le (f := fun k => if mb (O.getD k 0) p = true then 1 else 0) (c := 1) (fun p => by split <;> omega) k
  omega
theorem goG_day {B : Bd} {s : GS} {k : Nat} {pl : Option Nat} : gO (goG B (gS s, gL s, gC s, gD s % 2, gO s) k pl) = gO (goG B s k pl) := by
  cases pl with
  | none => rfl
  | some p => unfold goG lzA; dsimp only; rw [Nat.mod_mod]
theorem s_tries {Q : Option Value → mw → Prop} {M : mw} {B : Bd} {s : GS} (hB : bOk B) (hM : MB B M) (hG : MG s M) (hg : gOk B s) {k p : Nat} (hk : k < bK B) (hp : p < bN B)
    (q : ∀ M', frG M M' → MG s M' → M'.1 66 0 = nI (gO (goG B s k (some p))).length → lsL (gO (goG B s k (some p))) (M'.2 65) → M'.1 73 0 = nI (hitN (gO s) p) → Q none M') : V_tries [.ref 0, .int (nI (gD s % 2)), .int (nI k), .int (nI p)] M Q := by
  have hN := hB.2.2.2.2.1
  have h16 := hg.2.2.2.2.2.1
  have e108 : Int32.toNatClampNeg 108 = 108 := by decide
  have e109 : Int32.toNatClampNeg 109 = 109 := by decide
  refine e_tries (r_tries_0 (kk_keeps (l := 4) (by omega) h16 hG (fun M1 f1 k1 _ => r_tries_5 ?_)))
  refine upTo (gO s).length (fun j (M2 : mw) => frG M M2 ∧ MG s M2 ∧ MK 4 s M2 ∧ M2.1 73 0 = nI (smP (fun k => if mb ((gO s).getD k 0) p = true then 1 else 0) j))
    (fun j M2 => T_tries Q 13 [some (.ref 0), some (.int (nI (gD s % 2))), some (.int (nI k)), some (.int (nI p)), some (.int (nI j))] [] M2) ?_ ?_ 0 _ (by omega) ⟨frG_then (frG_of f1 (by omega)) (fr_up (lo := 73) (hi := 73) M1 _ _ (by omega)) (by omega), MG_fr (fr_up (lo := 73) (hi := 73) M1 0 _ (by omega)) (by omega) (MG_fr f1 (by omega) hG), MK_fr (fr_up (lo := 73) (hi := 73) M1 0 _ (by omega)) (by omega) k1, by rw [m_up, if_pos ⟨rfl, rfl⟩]; rfl⟩
  · intro M2 ⟨f2, g2, k2, a2⟩
    refine r_tries_13 ?_
    rw [e108, e109, g2.2.2.2.2.1]
    (try simp +decide (disch := omega) only [n_lit2, n_add, n_mul, n_tn, n_inT, n_ltT, n_ltF, n_leT, n_leF, n_eqT, n_eqF, n_eqm, n_meq, n_div, n_rem, nb_0, nb_1, nr_b, true_and, and_true, eq_self, Decidable.not_not, not_false_eq_true, not_true_eq_false, false_implies, true_implies, implies_true, Option.toList_some, Option.toList_none, List.cons_append, List.nil_append]); (try simp (disch := omega) only [lc_eq, lc_le, lc_lt, lc_ge, lc_gt, mb_t1, mb_t0, bI_0, bI_1, n_in, n_lt, n_le, n_eq, Bool.not_eq_false, Bool.not_eq_true, Decidable.not_not, true_and])
    have g3 := MG_upD (gD s % 2) g2
    have fu : fr 56 56 M2 (mM_up M2 56 108 (nI (gD s % 2))) := fr_up M2 _ _ (by omega)
    have hg3 : gOk B (gS s, gL s, gC s, gD s % 2, gO s) := ⟨hg.1, hg.2.1, hg.2.2.1, hg.2.2.2.1, by show gD s % 2 ≤ 200; omega, hg.2.2.2.2.2⟩
    rw [show nI p = plI (some p) from rfl]
    refine s_sets hB (MB_fr fu (by omega) (MB_frG f2 hM)) g3 hg3 (some p) (fun p' h => by cases h; exact ⟨hp, hk, rfl⟩) (fun M3 f3 g3 c3 => r_tries_71 ?_)
    obtain ⟨c31, c32⟩ := c3 ⟨p, rfl⟩
    rw [goG_day] at c31 c32
    refine kk_back (l := 4) (by omega) h16 (MK_fr f3 (by omega) (MK_fr fu (by omega) k2)) (fun M4 f4 g4 => r_tries_78 ⟨rfl, ?_⟩)
    refine q M4 ?_ g4 ?_ ?_ ?_
    · exact frG_then (frG_then (frG_then f2 fu (by omega)) f3 (by omega)) f4 (by omega)
    · rw [(f4 66 (by omega)).1]; exact c31
    · rw [(f4 65 (by omega)).2]; exact c32
    · rw [(f4 73 (by omega)).1, (f3 73 (by omega)).1, (fu 73 (by omega)).1]; exact a2
  · intro j M2 hj ⟨f2, g2, k2, a2⟩ next
    refine r_tries_13 ?_
    rw [e108, e109, g2.2.2.2.2.1]
    have r2 := lsL_get g2.2.2.2.2.2 hj
    have sl := hitN_le (gO s) p j
    (try simp +decide (disch := omega) only [n_lit2, n_add, n_mul, n_tn, n_inT, n_ltT, n_ltF, n_leT, n_leF, n_eqT, n_eqF, n_eqm, n_meq, n_div, n_rem, nb_0, nb_1, nr_b, true_and, and_true, eq_self, Decidable.not_not, not_false_eq_true, not_true_eq_false, false_implies, true_implies, implies_true, Option.toList_some, Option.toList_none, List.cons_append, List.nil_append, r2, a2]); (try simp (disch := omega) only [lc_eq, lc_le, lc_lt, lc_ge, lc_gt, mb_t1, mb_t0, bI_0, bI_1, n_in, n_lt, n_le, n_eq, Bool.not_eq_false, Bool.not_eq_true, Decidable.not_not, true_and, r2, a2])
    refine ⟨fun c => next M2 ⟨f2, g2, k2, ?_⟩, fun c => next _ ⟨frG_then f2 (fr_up (lo := 73) (hi := 73) M2 _ _ (by omega)) (by omega), MG_fr (fr_up (lo := 73) (hi := 73) M2 0 _ (by omega)) (by omega) g2, MK_fr (fr_up (lo := 73) (hi := 73) M2 0 _ (by omega)) (by omega) k2, ?_⟩⟩
    · rw [a2]; conv => rhs; unfold smP
      rw [c]; rfl
    · rw [m_up, if_pos ⟨rfl, rfl⟩]; conv => rhs; unfold smP
      rw [c]; rfl
theorem s_comesPlaces {Q : Option Value → mw → Prop} {M : mw} {L : List Int64} (hL : L.length ≤ 16) (h1 : M.1 66 0 = nI L.length) (h2 : lsL L (M.2 65)) (q : Q (some (.int (nI (smC L L.length)))) M) : V_comesPlaces [.ref 0] M Q := by
  refine e_comesPlaces (r_comesPlaces_0 ?_)
  refine upTo L.length (fun _ (_ : Unit) => True) (fun j _ => T_comesPlaces Q 4 [some (.ref 0), some (.int (nI (smC L j))), some (.int (nI j))] [] M) ?_ ?_ 0 () (by omega) trivial
  · intro _ _
    refine r_comesPlaces_4 ?_
    (try simp +decide (disch := omega) only [n_lit2, n_add, n_mul, n_tn, n_inT, n_ltT, n_ltF, n_leT, n_leF, n_eqT, n_eqF, n_eqm, n_meq, n_div, n_rem, nb_0, nb_1, nr_b, true_and, and_true, eq_self, Decidable.not_not, not_false_eq_true, not_true_eq_false, false_implies, true_implies, implies_true, Option.toList_some, Option.toList_none, List.cons_append, List.nil_append, h1]); (try simp (disch := omega) only [lc_eq, lc_le, lc_lt, lc_ge, lc_gt, mb_t1, mb_t0, bI_0, bI_1, n_in, n_lt, n_le, n_eq, Bool.not_eq_false, Bool.not_eq_true, Decidable.not_not, true_and, h1])
    exact q
  · intro j _ hj _ next
    refine r_comesPlaces_4 ?_
    have r2 := lsL_get h2 hj
    (try simp +decide (disch := omega) only [n_lit2, n_add, n_mul, n_tn, n_inT, n_ltT, n_ltF, n_leT, n_leF, n_eqT, n_eqF, n_eqm, n_meq, n_div, n_rem, nb_0, nb_1, nr_b, true_and, and_true, eq_self, Decidable.not_not, not_false_eq_true, not_true_eq_false, false_implies, true_implies, implies_true, Option.toList_some, Option.toList_none, List.cons_append, List.nil_append, h1, r2]); (try simp (disch := omega) only [lc_eq, lc_le, lc_lt, lc_ge, lc_gt, mb_t1, mb_t0, bI_0, bI_1, n_in, n_lt, n_le, n_eq, Bool.not_eq_false, Bool.not_eq_true, Decidable.not_not, true_and, h1, r2])
    refine s_bits _ (r_comesPlaces_22 ?_)
    (try simp +decide (disch := omega) only [n_lit2, n_add, n_mul, n_tn, n_inT, n_ltT, n_ltF, n_leT, n_leF, n_eqT, n_eqF, n_eqm, n_meq, n_div, n_rem, nb_0, nb_1, nr_b, true_and, and_true, eq_self, Decidable.not_not, not_false_eq_true, not_true_eq_false, false_implies, true_implies, implies_true, Option.toList_some, Option.toList_none, List.cons_append, List.nil_append]); (try simp (disch := omega) only [lc_eq, lc_le, lc_lt, lc_ge, lc_gt, mb_t1, mb_t0, bI_0, bI_1, n_in, n_lt, n_le, n_eq, Bool.not_eq_false, Bool.not_eq_true, Decidable.not_not, true_and])
    exact next () trivial
theorem goG_len {B : Bd} (hB : bOk B) (s : GS) (k : Nat) (pl : Option Nat) : (gO (goG B s k pl)).length ≤ 16 := by
  cases pl with
  | none => exact Nat.zero_le _
  | some p => exact newG_len hB _ _ _ _
noncomputable def threatR (B : Bd) (s : GS) (k p : Nat) (c : Int32) : Int32 := if c = nI 0 then nI (goC B s k (some p)) else if c = nI 1 then nI (gO (goG B s k (some p))).length else nI (hitN (gO s) p)
theorem s_threat {Q : Option Value → mw → Prop} {M : mw} {B : Bd} {s : GS} (hB : bOk B ∨ bN B = 0) (hK : bK B ≤ 5) (hM : MB B M) (hG : MG s M) (hg : gOk B s) (a b c : Int32)
    (q0 : ¬ (canP B s a b ∧ vld c 3) → Q (some (.int (-nI 1))) M) (q1 : ∀ k p, k < bK B → a = nI k → p < bN B → b = nI p → gS s p = 0 → gD s < 200 → vld c 3 → ∀ M', frG M M' → MG s M' → Q (some (.int (threatR B s k p c))) M') : V_threat [.ref 0, .int a, .int b, .int c] M Q := by
  have hN : bN B ≤ 36 := bN36 hB
  have hd := hg.2.2.2.2.1
  refine e_threat (r_threat_0 (s_canSet hN hK hM hG hg a b (fun h => r_threat_6 ⟨fun _ => ⟨trivial, q0 (fun z => h z.1)⟩, fun z => absurd rfl z⟩) (fun k p hk ek hp ep hf h200 => r_threat_6 ⟨fun z => absurd z (by decide), fun _ => ?_⟩)))
  refine isIn_v c 0 2 _ _ rfl rfl (by omega) (by omega) (r_threat_18 ⟨fun c0 => ?_, fun c0 => ⟨trivial, q0 (fun z => ?_)⟩⟩)
  rotate_left
  · have := bI_nn0 c0
    rw [decide_eq_false_iff_not] at this
    have z2 := z.2
    unfold vld at z2; omega
  have c1 := bI_n0 c0
  rw [decide_eq_true_eq] at c1
  have hc : vld c 3 := by unfold vld; omega
  have hB : bOk B := hB.elim id (fun h => by exfalso; omega)
  have q := q1 k p hk ek hp ep hf h200 hc
  subst ek; subst ep
  refine s_todays hG.2.2.2.1 (by omega) (r_threat_28 (s_tries hB hM hG hg hk hp (fun M1 f1 g1 n1 l1 a1 => r_threat_33 ?_)))
  have q := q M1 f1 g1
  have hl := goG_len hB s k (some p)
  unfold threatR at q
  refine ⟨fun c2 => ⟨fun c3 => ⟨trivial, ?_⟩, fun c3 => ⟨trivial, ?_⟩⟩, fun c2 => ?_⟩
  · rw [if_neg (show ¬ c = nI 0 from c2), if_neg (show ¬ c = nI 1 from c3)] at q; rw [a1]; exact q
  · rw [if_neg (show ¬ c = nI 0 from c2), if_pos (show c = nI 1 from Decidable.not_not.mp c3)] at q; rw [n1]; exact q
  · rw [if_pos (show c = nI 0 from Decidable.not_not.mp c2)] at q
    exact s_comesPlaces hl n1 l1 (r_threat_41 ⟨trivial, q⟩)
def fstP (f : Nat → Bool) : Nat → Option Nat
  | 0 => none
  | n + 1 => match fstP f n with
    | some p => some p
    | none => if f n = true then some n else none
theorem fstP_none {f : Nat → Bool} {n : Nat} (h : ∀ u, u < n → f u = false) : fstP f n = none := by
  induction n with
  | zero => rfl
  | succ n ih => unfold fstP; rw [ih (fun u hu => h u (by omega)), h n (by omega)]; rfl
theorem fstP_some {f : Nat → Bool} {n p : Nat} (hp : p < n) (h1 : f p = true) (h : ∀ u, u < p → f u = false) : fstP f n = some p := by
  induction n with
  | zero => omega
  | succ n ih =>
    unfold fstP
    by_cases e : p = n
    · subst e; rw [fstP_none h, h1]; rfl
    · rw [ih (by omega)]
noncomputable def forkF (B : Bd) (s : GS) (k p : Nat) : Bool := decide (gS s p = 0) && decide (2 ≤ (gO (goG B s k (some p))).length)
theorem s_fork {Q : Option Value → mw → Prop} {M : mw} {B : Bd} {s : GS} (hB : bOk B ∨ bN B = 0) (hK : bK B ≤ 5) (hM : MB B M) (hG : MG s M) (hg : gOk B s) (a : Int32)
    (q0 : ¬ (vld a (bK B) ∧ gD s < 200) → Q (some (.int (-nI 1))) M) (q1 : ∀ k, k < bK B → a = nI k → gD s < 200 → ∀ M', frG M M' → MG s M' → Q (some (.int (plI (fstP (forkF B s k) (bN B))))) M') : V_fork [.ref 0, .int a] M Q := by
  have hN : bN B ≤ 36 := bN36 hB
  have hd := hg.2.2.2.2.1
  have h12 := s12 hK hg.1
  have e108 : Int32.toNatClampNeg 108 = 108 := by decide
  have r : M.1 56 108 = nI (gD s) := hG.2.2.2.1
  refine e_fork (r_fork_0 (s_isKind hK hM a (r_fork_5 ⟨fun c => ⟨trivial, q0 (fun z => ?_)⟩, fun c => ?_⟩)))
  · have := bI_e0 c
    rw [decide_eq_false_iff_not] at this; exact this z.1
  have c1 := bI_n0 c
  rw [decide_eq_true_eq] at c1
  obtain ⟨k, hk, e⟩ := vld_ex (a := a) (n := bK B) c1
  rw [e108, r]
  have e200 : (nI (gD s) = (200 : Int32)) ↔ gD s = 200 := n_eq (b := 200) (by omega) (by omega)
  rw [e200]
  refine ⟨(n_in (a := 108) (by omega)).mpr (by omega), fun c2 => ?_, fun c2 => ⟨trivial, q0 (fun z => ?_)⟩⟩
  rotate_left
  · have := z.2; omega
  have q := q1 k hk e (by omega)
  subst e
  refine upTo (bN B) (fun p (M2 : mw) => frG M M2 ∧ MG s M2 ∧ ∀ u, u < p → forkF B s k u = false) (fun p M2 => T_fork Q 25 [some (.ref 0), some (.int (nI k)), some (.int (nI p))] [] M2) ?_ ?_ 0 M (by omega) ⟨frG_refl M, hG, fun u hu => by omega⟩
  · intro M2 ⟨f2, g2, h2⟩
    refine r_fork_25 (s_places (MB_frG f2 hM) (r_fork_30 ?_))
    (try simp +decide (disch := omega) only [n_lit2, n_add, n_mul, n_tn, n_inT, n_ltT, n_ltF, n_leT, n_leF, n_eqT, n_eqF, n_eqm, n_meq, n_div, n_rem, nb_0, nb_1, nr_b, true_and, and_true, eq_self, Decidable.not_not, not_false_eq_true, not_true_eq_false, false_implies, true_implies, implies_true, Option.toList_some, Option.toList_none, List.cons_append, List.nil_append]); (try simp (disch := omega) only [lc_eq, lc_le, lc_lt, lc_ge, lc_gt, mb_t1, mb_t0, bI_0, bI_1, n_in, n_lt, n_le, n_eq, Bool.not_eq_false, Bool.not_eq_true, Decidable.not_not, true_and])
    have q := q M2 f2 g2
    rw [fstP_none h2] at q; exact q
  · intro p M2 hp ⟨f2, g2, h2⟩ next
    have hM2 := MB_frG f2 hM
    have hB : bOk B := hB.elim id (fun h => by exfalso; omega)
    have hl := goG_len hB s k (some p)
    refine r_fork_25 (s_places hM2 (r_fork_30 ?_))
    (try simp +decide (disch := omega) only [n_lit2, n_add, n_mul, n_tn, n_inT, n_ltT, n_ltF, n_leT, n_leF, n_eqT, n_eqF, n_eqm, n_meq, n_div, n_rem, nb_0, nb_1, nr_b, true_and, and_true, eq_self, Decidable.not_not, not_false_eq_true, not_true_eq_false, false_implies, true_implies, implies_true, Option.toList_some, Option.toList_none, List.cons_append, List.nil_append]); (try simp (disch := omega) only [lc_eq, lc_le, lc_lt, lc_ge, lc_gt, mb_t1, mb_t0, bI_0, bI_1, n_in, n_lt, n_le, n_eq, Bool.not_eq_false, Bool.not_eq_true, Decidable.not_not, true_and])
    have nx : forkF B s k p = false → ∀ M3, frG M M3 → MG s M3 → T_fork Q 25 [some (.ref 0), some (.int (nI k)), some (.int (nI (p + 1)))] [] M3 := by
      intro hn M3 f3 g3
      refine next M3 ⟨f3, g3, fun u hu => ?_⟩
      by_cases z : u = p
      · subst z; exact hn
      · exact h2 u (by omega)
    refine s_isFree (MG_MS g2) (fun p => by have := h12 p; omega) (by omega) (r_fork_38 ⟨fun c => ?_, fun c => ?_⟩)
    · have c3 := bI_n0 c
      rw [decide_eq_true_eq] at c3
      refine s_todays g2.2.2.2.1 (by omega) (r_fork_49 (s_tries hB hM2 g2 hg hk hp (fun M3 f3 g3 n3 l3 a3 => r_fork_54 ?_)))
      have f4 := frG_trans f2 f3
      (try simp +decide (disch := omega) only [n_lit2, n_add, n_mul, n_tn, n_inT, n_ltT, n_ltF, n_leT, n_leF, n_eqT, n_eqF, n_eqm, n_meq, n_div, n_rem, nb_0, nb_1, nr_b, true_and, and_true, eq_self, Decidable.not_not, not_false_eq_true, not_true_eq_false, false_implies, true_implies, implies_true, Option.toList_some, Option.toList_none, List.cons_append, List.nil_append, n3]); (try simp (disch := omega) only [lc_eq, lc_le, lc_lt, lc_ge, lc_gt, mb_t1, mb_t0, bI_0, bI_1, n_in, n_lt, n_le, n_eq, Bool.not_eq_false, Bool.not_eq_true, Decidable.not_not, true_and, n3])
      refine ⟨fun c4 => nx ?_ M3 f4 g3, fun c4 => ?_⟩
      · unfold forkF; rw [decide_eq_false (show ¬ 2 ≤ (gO (goG B s k (some p))).length by omega), Bool.and_false]
      · have q := q M3 f4 g3
        rw [fstP_some hp (by unfold forkF; rw [decide_eq_true c3, decide_eq_true (by omega)]; rfl) h2] at q
        exact q
    · have c3 := bI_nn0 c
      rw [decide_eq_false_iff_not] at c3
      (try simp +decide (disch := omega) only [n_lit2, n_add, n_mul, n_tn, n_inT, n_ltT, n_ltF, n_leT, n_leF, n_eqT, n_eqF, n_eqm, n_meq, n_div, n_rem, nb_0, nb_1, nr_b, true_and, and_true, eq_self, Decidable.not_not, not_false_eq_true, not_true_eq_false, false_implies, true_implies, implies_true, Option.toList_some, Option.toList_none, List.cons_append, List.nil_append]); (try simp (disch := omega) only [lc_eq, lc_le, lc_lt, lc_ge, lc_gt, mb_t1, mb_t0, bI_0, bI_1, n_in, n_lt, n_le, n_eq, Bool.not_eq_false, Bool.not_eq_true, Decidable.not_not, true_and])
      exact nx (by unfold forkF; rw [decide_eq_false c3]; rfl) M2 f2 g2
/-- a place that answers all that is owed -/
def ansF (s : GS) (p : Nat) : Bool := decide (0 < (gO s).length) && decide (gS s p = 0) && (List.range (gO s).length).all (fun k => mb ((gO s).getD k 0) p)
def ctP (f : Nat → Bool) (n : Nat) : Nat := smP (fun p => if f p = true then 1 else 0) n
theorem ctP_le (f : Nat → Bool) (n : Nat) : ctP f n ≤ n := by
  have := smP_le (f := fun p => if f p = true then 1 else 0) (c := 1) (fun p => by split <;> omega) n
  unfold ctP; omega
def ansR (s : GS) (N : Nat) (k : Int32) : Int32 := if k = -nI 1 then nI (ctP (ansF s) N) else plI (fstP (fun p => ansF s p && decide (nI (ctP (ansF s) p) = k)) N)
theorem s_answer {Q : Option Value → mw → Prop} {M : mw} {B : Bd} {s : GS} (hN : bN B ≤ 36) (hK : bK B ≤ 5) (hM : MB B M) (hG : MG s M) (hg : gOk B s) (k : Int32)
    (q : Q (some (.int (ansR s (bN B) k))) M) : V_answer [.ref 0, .int k] M Q := by
  have h12 := s12 hK hg.1
  have h16 := hg.2.2.2.2.2.1
  have e109 : Int32.toNatClampNeg 109 = 109 := by decide
  have r : M.1 56 109 = nI (gO s).length := hG.2.2.2.2.1
  have e0 : nI 0 = (0 : Int32) := rfl
  refine e_answer (r_answer_0 ?_)
  refine upTo (bN B) (fun p (_ : Unit) => ∀ u, u < p → (ansF s u && decide (nI (ctP (ansF s) u) = k)) = false) (fun p _ => ∀ {o4 o5 : Option Value}, T_answer Q 4 [some (.ref 0), some (.int k), some (.int (nI (ctP (ansF s) p))), some (.int (nI p)), o4, o5] [] M) ?_ ?_ 0 () (by omega) (fun u hu => by omega)
  · intro _ h o4 o5
    refine r_answer_4 (s_places hM (r_answer_9 ?_))
    unfold ansR at q
    (try simp +decide (disch := omega) only [n_lit2, n_add, n_mul, n_tn, n_inT, n_ltT, n_ltF, n_leT, n_leF, n_eqT, n_eqF, n_eqm, n_meq, n_div, n_rem, nb_0, nb_1, nr_b, true_and, and_true, eq_self, Decidable.not_not, not_false_eq_true, not_true_eq_false, false_implies, true_implies, implies_true, Option.toList_some, Option.toList_none, List.cons_append, List.nil_append]); (try simp (disch := omega) only [lc_eq, lc_le, lc_lt, lc_ge, lc_gt, mb_t1, mb_t0, bI_0, bI_1, n_in, n_lt, n_le, n_eq, Bool.not_eq_false, Bool.not_eq_true, Decidable.not_not, true_and])
    refine ⟨fun c => ?_, fun c => ?_⟩
    · rw [if_neg c, fstP_none h] at q; exact q
    · rw [if_pos c] at q; exact q
  · intro p _ hp h next o4 o5
    have cl := ctP_le (ansF s) p
    have yes : ansF s p = true → ((¬ nI (ctP (ansF s) p) = k) → ∀ {o4 o5 : Option Value}, T_answer Q 4 [some (.ref 0), some (.int k), some (.int (nI (ctP (ansF s) p + 1))), some (.int (nI (p + 1))), o4, o5] [] M) ∧ (nI (ctP (ansF s) p) = k → Q (some (.int (nI p))) M) := by
      intro ha
      refine ⟨fun c => ?_, fun c => ?_⟩
      · intro o4 o5
        have := next () (fun u hu => by
          by_cases z : u = p
          · subst z; rw [decide_eq_false c, Bool.and_false]
          · exact h u (by omega)) (o4 := o4) (o5 := o5)
        unfold ctP smP at this
        rw [ha] at this; exact this
      · unfold ansR at q
        have kn : ¬ k = -nI 1 := fun z => by
          rw [z] at c
          have := (n_eqg (a := ctP (ansF s) p) (b := 1) (by omega) (by omega)).mp c
          omega
        rw [if_neg kn, fstP_some hp (by rw [ha, decide_eq_true c]; rfl) h] at q
        exact q
    have no : ansF s p = false → ∀ {o4 o5 : Option Value}, T_answer Q 4 [some (.ref 0), some (.int k), some (.int (nI (ctP (ansF s) p))), some (.int (nI (p + 1))), o4, o5] [] M := by
      intro ha o4 o5
      have := next () (fun u hu => by
        by_cases z : u = p
        · subst z; rw [ha]; rfl
        · exact h u (by omega)) (o4 := o4) (o5 := o5)
      unfold ctP smP at this
      rw [ha] at this; exact this
    have inner : ∀ (b0 : Bool), b0 = (decide (0 < (gO s).length) && decide (gS s p = 0)) → T_answer Q 40 [some (.ref 0), some (.int k), some (.int (nI (ctP (ansF s) p))), some (.int (nI p)), some (.int (bI b0)), some (.int (nI 0))] [] M := by
      intro b0 hb0
      refine upTo (gO s).length (fun i (b : Bool) => b = (b0 && (List.range i).all (fun k => mb ((gO s).getD k 0) p))) (fun i b => T_answer Q 40 [some (.ref 0), some (.int k), some (.int (nI (ctP (ansF s) p))), some (.int (nI p)), some (.int (bI b)), some (.int (nI i))] [] M) ?_ ?_ 0 b0 (by omega) (by simp)
      · intro b hb
        have hbA : b = ansF s p := by rw [hb, hb0]; rfl
        refine r_answer_40 ?_
        rw [e109, r]
        (try simp +decide (disch := omega) only [n_lit2, n_add, n_mul, n_tn, n_inT, n_ltT, n_ltF, n_leT, n_leF, n_eqT, n_eqF, n_eqm, n_meq, n_div, n_rem, nb_0, nb_1, nr_b, true_and, and_true, eq_self, Decidable.not_not, not_false_eq_true, not_true_eq_false, false_implies, true_implies, implies_true, Option.toList_some, Option.toList_none, List.cons_append, List.nil_append]); (try simp (disch := omega) only [lc_eq, lc_le, lc_lt, lc_ge, lc_gt, mb_t1, mb_t0, bI_0, bI_1, n_in, n_lt, n_le, n_eq, Bool.not_eq_false, Bool.not_eq_true, Decidable.not_not, true_and])
        refine ⟨fun c => ?_, fun c => ?_⟩
        · exact ⟨fun z => (yes (by rw [← hbA]; exact c)).1 z, fun z => (yes (by rw [← hbA]; exact c)).2 z⟩
        · exact no (by rw [← hbA]; exact c)
      · intro i b hi hb next2
        have r2 := lsL_get hG.2.2.2.2.2 hi
        have e2 : (List.range (i + 1)).all (fun k => mb ((gO s).getD k 0) p) = ((List.range i).all (fun k => mb ((gO s).getD k 0) p) && mb ((gO s).getD i 0) p) := by
          rw [List.range_succ, List.all_append]; simp
        refine r_answer_40 ?_
        rw [e109, r]
        (try simp +decide (disch := omega) only [n_lit2, n_add, n_mul, n_tn, n_inT, n_ltT, n_ltF, n_leT, n_leF, n_eqT, n_eqF, n_eqm, n_meq, n_div, n_rem, nb_0, nb_1, nr_b, true_and, and_true, eq_self, Decidable.not_not, not_false_eq_true, not_true_eq_false, false_implies, true_implies, implies_true, Option.toList_some, Option.toList_none, List.cons_append, List.nil_append, r2]); (try simp (disch := omega) only [lc_eq, lc_le, lc_lt, lc_ge, lc_gt, mb_t1, mb_t0, bI_0, bI_1, n_in, n_lt, n_le, n_eq, Bool.not_eq_false, Bool.not_eq_true, Decidable.not_not, true_and, r2])
        refine ⟨fun c => next2 false ?_, fun c => ⟨fun c2 => next2 false ?_, fun c2 => next2 true ?_⟩⟩
        · rw [e2, ← Bool.and_assoc, ← hb, c]; rfl
        · rw [e2, ← Bool.and_assoc, ← hb, c, c2]; rfl
        · rw [e2, ← Bool.and_assoc, ← hb, c, c2]; rfl
    refine r_answer_4 (s_places hM (r_answer_9 ?_))
    rw [e109, r]
    (try simp +decide (disch := omega) only [n_lit2, n_add, n_mul, n_tn, n_inT, n_ltT, n_ltF, n_leT, n_leF, n_eqT, n_eqF, n_eqm, n_meq, n_div, n_rem, nb_0, nb_1, nr_b, true_and, and_true, eq_self, Decidable.not_not, not_false_eq_true, not_true_eq_false, false_implies, true_implies, implies_true, Option.toList_some, Option.toList_none, List.cons_append, List.nil_append]); (try simp (disch := omega) only [lc_eq, lc_le, lc_lt, lc_ge, lc_gt, mb_t1, mb_t0, bI_0, bI_1, n_in, n_lt, n_le, n_eq, Bool.not_eq_false, Bool.not_eq_true, Decidable.not_not, true_and])
    refine ⟨fun c => ?_, fun c => ?_⟩
    · exact inner false (by rw [decide_eq_false (by omega)]; rfl)
    · refine s_isFree (MG_MS hG) (fun p => by have := h12 p; omega) (by omega) (r_answer_27 ?_)
      (try simp +decide (disch := omega) only [n_lit2, n_add, n_mul, n_tn, n_inT, n_ltT, n_ltF, n_leT, n_leF, n_eqT, n_eqF, n_eqm, n_meq, n_div, n_rem, nb_0, nb_1, nr_b, true_and, and_true, eq_self, Decidable.not_not, not_false_eq_true, not_true_eq_false, false_implies, true_implies, implies_true, Option.toList_some, Option.toList_none, List.cons_append, List.nil_append]); (try simp (disch := omega) only [lc_eq, lc_le, lc_lt, lc_ge, lc_gt, mb_t1, mb_t0, bI_0, bI_1, n_in, n_lt, n_le, n_eq, Bool.not_eq_false, Bool.not_eq_true, Decidable.not_not, true_and])
      refine ⟨fun c2 => inner false ?_, fun c2 => inner true ?_⟩
      · rw [c2, Bool.and_false]
      · rw [c2, decide_eq_true (by omega)]; rfl
noncomputable def lineR (B : Bd) (s : GS) (p q : Nat) : Int32 := if p = q ∨ gS s p = 0 ∨ gS s q = 0 ∨ gS s p % 2 ≠ gS s q % 2 then -nI 1 else nI (if lineG B (gS s) p q = true then 1 else 0)
theorem s_line {Q : Option Value → mw → Prop} {M : mw} {B : Bd} {s : GS} (hB : bOk B ∨ bN B = 0) (hK : bK B ≤ 5) (hM : MB B M) (hG : MG s M) (hg : gOk B s) (a b : Int32)
    (q0 : ¬ (vld a (bN B) ∧ vld b (bN B)) → Q (some (.int (-nI 1))) M) (q1 : ∀ p u, p < bN B → a = nI p → u < bN B → b = nI u → Q (some (.int (lineR B s p u))) M) : V_line [.ref 0, .int a, .int b] M Q := by
  have hN : bN B ≤ 36 := bN36 hB
  have h12 := s12 hK hg.1
  have h12' : ∀ p, gS s p < 12 := fun p => by have := h12 p; omega
  refine e_line (r_line_0 (s_isPlace hN hM a (r_line_5 ⟨fun c => ⟨trivial, q0 (fun z => ?_)⟩, fun c => ?_⟩)))
  · have := bI_e0 c
    rw [decide_eq_false_iff_not] at this; exact this z.1
  have c1 := bI_n0 c
  rw [decide_eq_true_eq] at c1
  obtain ⟨p, hp, e⟩ := vld_ex (a := a) (n := bN B) c1
  refine s_isPlace hN hM b (r_line_13 ⟨fun c => ⟨trivial, q0 (fun z => ?_)⟩, fun c => ?_⟩)
  · have := bI_e0 c
    rw [decide_eq_false_iff_not] at this; exact this z.2
  have c2 := bI_n0 c
  rw [decide_eq_true_eq] at c2
  obtain ⟨u, hu, e2⟩ := vld_ex (a := b) (n := bN B) c2
  have q := q1 p u hp e hu e2
  unfold lineR at q
  subst e; subst e2
  rw [n_eq (by omega) (by omega)]
  refine ⟨fun c3 => ⟨trivial, ?_⟩, fun c3 => ?_⟩
  · rw [if_pos (Or.inl c3)] at q; exact q
  have hB : bOk B := hB.elim id (fun h => by exfalso; omega)
  refine s_isFree (MG_MS hG) h12' (by omega) (r_line_26 ⟨fun c => ⟨trivial, ?_⟩, fun c => ?_⟩)
  · have c4 := bI_n0 c
    rw [decide_eq_true_eq] at c4
    rw [if_pos (Or.inr (Or.inl c4))] at q; exact q
  have c4 := bI_nn0 c
  rw [decide_eq_false_iff_not] at c4
  refine s_isFree (MG_MS hG) h12' (by omega) (r_line_34 ⟨fun c => ⟨trivial, ?_⟩, fun c => ?_⟩)
  · have c5 := bI_n0 c
    rw [decide_eq_true_eq] at c5
    rw [if_pos (Or.inr (Or.inr (Or.inl c5)))] at q; exact q
  have c5 := bI_nn0 c
  rw [decide_eq_false_iff_not] at c5
  have hp12 := h12' p
  have hu12 := h12' u
  have r1 := hG.1 p (by omega)
  have r2 := hG.1 u (by omega)
  (try simp +decide (disch := omega) only [n_lit2, n_add, n_mul, n_tn, n_inT, n_ltT, n_ltF, n_leT, n_leF, n_eqT, n_eqF, n_eqm, n_meq, n_div, n_rem, nb_0, nb_1, nr_b, true_and, and_true, eq_self, Decidable.not_not, not_false_eq_true, not_true_eq_false, false_implies, true_implies, implies_true, Option.toList_some, Option.toList_none, List.cons_append, List.nil_append, r1, r2]); (try simp (disch := omega) only [lc_eq, lc_le, lc_lt, lc_ge, lc_gt, mb_t1, mb_t0, bI_0, bI_1, n_in, n_lt, n_le, n_eq, Bool.not_eq_false, Bool.not_eq_true, Decidable.not_not, true_and, r1, r2])
  refine ⟨fun c6 => ?_, fun c6 => ?_⟩
  · rw [if_neg (by omega)] at q
    refine s_isLine hB hM (MG_MS hG) hg.1 hp hu c4 c5 (r_line_64 ⟨fun c => ⟨trivial, ?_⟩, fun c => ⟨trivial, ?_⟩⟩)
    · rw [bI_e0 c] at q; exact q
    · rw [bI_n0 c] at q; exact q
  · rw [if_pos (Or.inr (Or.inr (Or.inr c6)))] at q; exact q
