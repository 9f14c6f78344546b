/-! play, thumb, BorderStonesModel -/
theorem rng_ex {a : Int32} {lo hi : Nat} (h : (lo : Int) ≤ a.toInt ∧ a.toInt ≤ (hi : Int)) : ∃ n, lo ≤ n ∧ n ≤ hi ∧ a = nI n := by
  obtain ⟨k, hk, e⟩ := vld_ex (a := a) (n := hi + 1) (by unfold vld; omega)
  have h1 := a.toInt_lt
  refine ⟨k, ?_, by omega, e⟩
  have hb : a.toInt = k ∨ k ≥ 2147483648 := by
    rcases Nat.lt_or_ge k 2147483648 with c | c
    · left; rw [e, n_T c]
    · right; exact c
  rcases hb with hb | hb
  · omega
  · omega
theorem rng_n {n lo hi : Nat} (h1 : lo ≤ n) (h2 : n ≤ hi) (h3 : n < 2147483648) : (lo : Int) ≤ (nI n).toInt ∧ (nI n).toInt ≤ (hi : Int) := by
  rw [n_T h3]; omega
def canPl (B : Bd) (s : GS) (a : Int32) : Prop := ∃ n, a = nI n ∧ 1 ≤ n ∧ n ≤ 3 ∧ 0 < bK B ∧ (n < 3 ∨ bN B ≤ 20) ∧ gD s + n ≤ 200
theorem nI_inj3 {a b : Nat} (ha : a < 1000) (hb : b < 1000) (h : nI a = nI b) : a = b := (n_eq (by omega) (by omega)).mp h
theorem s_canPlay {Q : Option Value → mw → Prop} {M : mw} {B : Bd} {s : GS} (hN : bN B ≤ 36) (hK : bK B ≤ 5) (hM : MB B M) (hG : MG s M) (hg : gOk B s) (a : Int32)
    (q0 : ¬ canPl B s a → Q (some (.int (nI 0))) M) (q1 : ∀ n, a = nI n → 1 ≤ n → n ≤ 3 → 0 < bK B → (n < 3 ∨ bN B ≤ 20) → gD s + n ≤ 200 → Q (some (.int (nI 1))) M) : V_canPlay [.ref 0, .int a] M Q := by
  have hd := hg.2.2.2.2.1
  have e108 : Int32.toNatClampNeg 108 = 108 := by decide
  have r : M.1 56 108 = nI (gD s) := hG.2.2.2.1
  refine e_canPlay (r_canPlay_0 (isIn_v a 1 3 _ _ rfl rfl (by omega) (by omega) (r_canPlay_9 ⟨fun c => ⟨nr_0, q0 (fun ⟨n, e, h1, h2, _⟩ => ?_)⟩, fun c => ?_⟩)))
  · have := bI_e0 c
    rw [decide_eq_false_iff_not] at this
    exact this (by rw [e]; exact rng_n h1 h2 (by omega))
  have c1 := bI_n0 c
  rw [decide_eq_true_eq] at c1
  obtain ⟨n, h1, h3, e⟩ := rng_ex c1
  subst e
  have un : ∀ m, nI n = nI m → m ≤ 3 → m = n := fun m hm h => (nI_inj3 (by omega) (by omega) hm).symm
  have fin : (n < 3 ∨ bN B ≤ 20) → 0 < bK B → (vp_in (108 : Int32) 110 ∧ (((200 : Int32) < nI (gD s) + nI n → (narrow .boolean (.int 0) = .int 0 ∧ Q (some (.int (nI 0))) M)) ∧ (¬ ((200 : Int32) < nI (gD s) + nI n) → (narrow .boolean (.int 1) = .int 1 ∧ Q (some (.int (nI 1))) M)))) := by
    intro h20 hk
    have e2 : ((200 : Int32) < nI (gD s) + nI n) ↔ 200 < gD s + n := by rw [n_add]; exact n_lt (a := 200) (by omega) (by omega)
    rw [e2]
    refine ⟨(n_in (a := 108) (by omega)).mpr (by omega), fun c2 => ⟨nr_0, q0 (fun ⟨m, em, _, hm, _, _, hm2⟩ => ?_)⟩, fun c2 => ⟨nr_1, q1 n rfl h1 h3 hk h20 (by omega)⟩⟩
    have := un m em hm; omega
  refine s_kinds hM (r_canPlay_16 ?_)
  rw [e108, r]
  have eK : (nI (bK B) ≤ (0 : Int32)) ↔ bK B ≤ 0 := n_le (b := 0) (by omega) (by omega)
  have e3 : (nI n < (3 : Int32)) ↔ n < 3 := n_lt (b := 3) (by omega) (by omega)
  rw [eK, e3]
  refine ⟨fun c2 => ⟨nr_0, q0 (fun ⟨_, _, _, _, hk, _⟩ => by omega)⟩, fun c2 => ⟨fun c3 => fin (Or.inl c3) (by omega), fun c3 => ?_⟩⟩
  refine s_places hM (r_canPlay_28 ?_)
  rw [e108, r]
  have e20 : ((20 : Int32) < nI (bN B)) ↔ 20 < bN B := n_lt (a := 20) (by omega) (by omega)
  rw [e20]
  refine ⟨fun c4 => ⟨nr_0, q0 (fun ⟨m, em, _, hm, _, hm2, _⟩ => ?_)⟩, fun c4 => fin (Or.inr (by omega)) (by omega)⟩
  have := un m em hm; omega
noncomputable def playR (B : Bd) (s : GS) (n : Nat) (b : Int32) : Int32 := if b = nI 0 then plV B (gD s % 2) n s else plI (mvP (bN B) (plM B (gD s % 2) n s))
theorem s_play {Q : Option Value → mw → Prop} {M : mw} {B : Bd} {s : GS} (hB : bOk B ∨ bN B = 0) (hK : bK B ≤ 5) (hKN : 0 < bK B → bOk B) (hM : MB B M) (hG : MG s M) (hg : gOk B s) (a b : Int32)
    (q0 : ¬ (canPl B s a ∧ vld b 2) → Q (some (.int (-nI 1000000000))) M) (q1 : ∀ n, a = nI n → 1 ≤ n → n ≤ 3 → canPl B s a → vld b 2 → ∀ M', frG M M' → MG s M' → Q (some (.int (playR B s n b))) M') : V_play [.ref 0, .int a, .int b] M Q := by
  have hN : bN B ≤ 36 := bN36 hB
  have hd := hg.2.2.2.2.1
  refine e_play (r_play_0 (s_canPlay hN hK hM hG hg a (fun h => r_play_5 ⟨fun _ => ⟨trivial, q0 (fun z => h z.1)⟩, fun z => absurd rfl z⟩) (fun n en h1 h3 hk h20 h200 => r_play_5 ⟨fun z => absurd z (by decide), fun _ => ?_⟩)))
  have hcp : canPl B s a := ⟨n, en, h1, h3, hk, h20, h200⟩
  have hB := hKN hk
  refine isIn_v b 0 1 _ _ rfl rfl (by omega) (by omega) (r_play_15 ⟨fun c0 => ?_, fun c0 => ⟨trivial, q0 (fun z => ?_)⟩⟩)
  rotate_left
  · have := bI_nn0 c0
    rw [decide_eq_false_iff_not] at this
    have z2 := z.2
    unfold vld at z2; omega
  have c1 := bI_n0 c0
  rw [decide_eq_true_eq] at c1
  have hv : vld b 2 := by unfold vld; omega
  have q := q1 n en h1 h3 hcp hv
  subst en
  unfold playR at q
  refine s_todays hG.2.2.2.1 (by omega) (r_play_28 (s_plays hB hk (goOk_all hB) hM hG hg h1 h3 (by omega) h200 (fun M1 f1 g1 _ b1 hm => r_play_31 ⟨fun c2 => ⟨(n_in (a := 0) (by omega)).mpr (by omega), ?_⟩, fun c2 => ⟨trivial, ?_⟩⟩)))
  · have q := q M1 f1 g1
    rw [if_neg (show ¬ b = nI 0 from c2)] at q
    have e0 : Int32.toNatClampNeg 0 = 0 := by decide
    refine s_places (MB_frG f1 hM) (r_play_50 ?_)
    rw [e0, b1]
    rw [n_eq (by omega) (by omega)]
    unfold mvP at q
    refine ⟨fun c3 => ⟨(n_in (a := 0) (by omega)).mpr (by omega), trivial, ?_⟩, fun c3 => ⟨trivial, ?_⟩⟩
    · rw [if_neg c3] at q; exact q
    · rw [if_pos (Decidable.not_not.mp c3)] at q; exact q
  · have q := q M1 f1 g1
    rw [if_pos (show b = nI 0 from Decidable.not_not.mp c2)] at q; exact q
/-! rules of thumb -/
noncomputable def twR (B : Bd) (s : GS) (r p : Nat) : Int32 := if r = 0 then nI (hitN (gO s) p) else if r = 1 then nI (goC B s 0 (some p)) else nI (cnt (edgeL B (upN (gS s) p (2 + gD s % 2)) (gD s % 2))) - nI (cnt (edgeL B (gS s) (gD s % 2)))
theorem upN_back {f : Nat → Nat} {p v : Nat} (h : f p = 0) : upN (upN f p v) p 0 = f := by
  funext u; unfold upN
  by_cases e : u = p
  · subst e; simp [h]
  · simp [e]
theorem s_thumbWorth {Q : Option Value → mw → Prop} {M : mw} {B : Bd} {s : GS} (hB : bOk B) (hK0 : 0 < bK B) (hM : MB B M) (hG : MG s M) (hg : gOk B s) {r p : Nat} (hr : r ≤ 2) (hp : p < bN B) (hf : gS s p = 0)
    (q : ∀ M', frG M M' → MG s M' → Q (some (.int (twR B s r p))) M') : V_thumbWorth [.ref 0, .int (nI r), .int (nI p)] M Q := by
  have hN := hB.2.2.2.2.1
  have hd := hg.2.2.2.2.1
  refine e_thumbWorth (r_thumbWorth_0 (s_todays hG.2.2.2.1 (by omega) (r_thumbWorth_5 (s_edges hB hM (MG_MS hG) hg.1 (side := gD s % 2) (by omega) (fun M1 f1 e1 _ => r_thumbWorth_8 ?_)))))
  rw [e1]
  have hM1 := MB_fr f1 (by omega) hM
  have g1 := MG_fr f1 (by omega) hG
  refine s_bits _ (r_thumbWorth_15 (s_todays g1.2.2.2.1 (by omega) (r_thumbWorth_21 ?_)))
  refine s_tries (k := 0) hB hM1 g1 hg hK0 hp (fun M2 f2 g2 n2 l2 a2 => r_thumbWorth_26 ?_)
  have f3 : frG M M2 := frG_trans (frG_of f1 (by omega)) f2
  have q3 := q M2 f3 g2
  have hl := goG_len hB s 0 (some p)
  unfold twR at q3 q
  have l0 : (nI r = (0 : Int32)) ↔ r = 0 := n_eq (b := 0) (by omega) (by omega)
  have l1 : (nI r = (1 : Int32)) ↔ r = 1 := n_eq (b := 1) (by omega) (by omega)
  rw [l0, l1]
  refine ⟨fun c => ⟨fun c2 => ?_, fun c2 => ?_⟩, fun c => ⟨trivial, ?_⟩⟩
  · have hM2 := MB_frG f2 hM1
    refine s_todays g2.2.2.2.1 (by omega) (r_thumbWorth_55 ?_)
    have e2 : (2 : Int32) + nI (gD s % 2) = nI (2 + gD s % 2) := n_add 2 _
    rw [n_tn (by omega), e2]
    refine ⟨(n_in (by omega)).mpr (by omega), ?_⟩
    have g4 := MG_upS (p := p) (2 + gD s % 2) g2 (by omega)
    have fu : fr 56 56 M2 (mM_up M2 56 p (nI (2 + gD s % 2))) := fr_up M2 _ _ (by omega)
    refine s_todays g4.2.2.2.1 (by show gD s < _; omega) (r_thumbWorth_62 ?_)
    have ok4 : sOk B (upN (gS s) p (2 + gD s % 2)) := sOk_up (k := 0) hg.1 hK0 (by omega)
    refine s_edges hB (MB_fr fu (by omega) hM2) (MG_MS g4) ok4 (side := gD s % 2) (by omega) (fun M3 f5 e5 _ => r_thumbWorth_65 ?_)
    rw [n_tn (by omega)]
    refine ⟨(n_in (by omega)).mpr (by omega), ?_⟩
    rw [m_up2, e5]
    have g6 := MG_upS (p := p) 0 (MG_fr f5 (by omega) g4) (by omega)
    refine s_bits _ (r_thumbWorth_79 ⟨trivial, ?_⟩)
    have g7 : MG s (mM_up M3 56 p 0) := by
      have : (upN (upN (gS s) p (2 + gD s % 2)) p 0, gL s, gC s, gD s, gO s) = s := by rw [upN_back hf]
      rw [← this]; exact g6
    have f7 : frG M (mM_up M3 56 p 0) := frG_then (frG_then (frG_then f3 fu (by omega)) f5 (by omega)) (fr_up (lo := 56) (hi := 56) M3 _ _ (by omega)) (by omega)
    have q7 := q _ f7 g7
    rw [if_neg c, if_neg c2] at q7
    exact q7
  · rw [if_neg c, if_pos (Decidable.not_not.mp c2)] at q3
    exact s_comesPlaces hl n2 l2 (r_thumbWorth_44 ⟨trivial, q3⟩)
  · rw [if_pos (Decidable.not_not.mp c)] at q3
    rw [a2]; exact q3
def thF (f : Nat → Int32) : Nat → Option Nat × Int32
  | 0 => (none, 0)
  | k + 1 => if (thF f k).2 < f k then (some k, f k) else thF f k
noncomputable def thV (B : Bd) (s : GS) (r p : Nat) : Int32 := if gS s p = 0 then twR B s r p else 0
theorem thF_lt {f : Nat → Int32} {n p : Nat} (h : (thF f n).1 = some p) : p < n := by
  induction n with
  | zero => cases h
  | succ n ih =>
    unfold thF at h
    split at h
    · cases h; omega
    · have := ih h; omega
theorem thF_pos (f : Nat → Int32) (n : Nat) : (0 : Int32) ≤ (thF f n).2 := by
  induction n with
  | zero => exact Int32.le_refl _
  | succ n ih =>
    unfold thF
    split
    · rename_i c; exact Int32.le_trans ih (Int32.le_of_lt c)
    · exact ih
theorem s_thumbOf {Q : Option Value → mw → Prop} {M : mw} {B : Bd} {s : GS} (hB : bOk B) (hK0 : 0 < bK B) (hM : MB B M) (hG : MG s M) (hg : gOk B s) {r : Nat} (hr : r ≤ 2)
    (q : ∀ M', frG M M' → MG s M' → Q (some (.int (plI (thF (thV B s r) (bN B)).1))) M') : V_thumbOf [.ref 0, .int (nI r)] M Q := by
  have hN := hB.2.2.2.2.1
  have hK := hB.2.2.2.2.2.1
  have h12 := s12 hK hg.1
  refine e_thumbOf (r_thumbOf_0 ?_)
  refine upTo (bN B) (fun _ (M2 : mw) => frG M M2 ∧ MG s M2) (fun p M2 => ∀ {o5 : Option Value}, T_thumbOf Q 7 [some (.ref 0), some (.int (nI r)), some (.int (plI (thF (thV B s r) p).1)), some (.int (thF (thV B s r) p).2), some (.int (nI p)), o5] [] M2) ?_ ?_ 0 M (by omega) ⟨frG_refl M, hG⟩
  · intro M2 ⟨f2, g2⟩ o5
    refine r_thumbOf_7 (s_places (MB_frG f2 hM) (r_thumbOf_13 ?_))
    (try simp +decide (disch := omega) only [n_lit2, n_add, n_mul, n_tn, n_inT, n_ltT, n_ltF, n_leT, n_leF, n_eqT, n_eqF, n_eqm, n_meq, n_div, n_rem, nb_0, nb_1, nr_b, true_and, and_true, eq_self, Decidable.not_not, not_false_eq_true, not_true_eq_false, false_implies, true_implies, implies_true, Option.toList_some, Option.toList_none, List.cons_append, List.nil_append]); (try simp (disch := omega) only [lc_eq, lc_le, lc_lt, lc_ge, lc_gt, mb_t1, mb_t0, bI_0, bI_1, n_in, n_lt, n_le, n_eq, Bool.not_eq_false, Bool.not_eq_true, Decidable.not_not, true_and])
    exact q M2 f2 g2
  · intro p M2 hp ⟨f2, g2⟩ next o5
    have hM2 := MB_frG f2 hM
    have e1 : nI p + 1 = nI (p + 1) := n_add p 1
    refine r_thumbOf_7 (s_places hM2 (r_thumbOf_13 ⟨fun c => ?_, fun c => ?_⟩))
    · rw [n_le (by omega) (by omega)] at c; omega
    refine s_isFree (MG_MS g2) (fun p => by have := h12 p; omega) (by omega) (r_thumbOf_22 ⟨fun c2 => ?_, fun c2 => ?_⟩)
    · have c3 := bI_e0 c2
      rw [decide_eq_false_iff_not] at c3
      have e2 : thF (thV B s r) (p + 1) = thF (thV B s r) p := by
        conv => lhs; unfold thF
        rw [if_neg]
        unfold thV; rw [if_neg c3]
        exact Int32.not_lt.mpr (thF_pos _ _)
      refine ⟨fun c4 => absurd (thF_pos (thV B s r) p) (Int32.not_le.mpr c4), fun c4 => ?_⟩
      have nx := next M2 ⟨f2, g2⟩ (o5 := some (.int 0))
      rw [e2] at nx
      rw [e1]; exact nx
    · have c3 := bI_n0 c2
      rw [decide_eq_true_eq] at c3
      refine s_thumbWorth hB hK0 hM2 g2 hg hr hp c3 (fun M3 f3 g3 => r_thumbOf_32 ?_)
      have ev : thV B s r p = twR B s r p := by unfold thV; rw [if_pos c3]
      have nx := fun o => next M3 ⟨frG_trans f2 f3, g3⟩ (o5 := o)
      unfold thF at nx
      rw [ev] at nx
      rw [e1]
      refine ⟨fun c4 => ?_, fun c4 => ?_⟩
      · rw [if_pos c4] at nx; exact nx _
      · rw [if_neg c4] at nx; exact nx _
noncomputable def thumbR (B : Bd) (s : GS) (r n : Nat) (c : Int32) : Int32 := if c = nI 0 then plI (thF (thV B s r) (bN B)).1 else plV B (gD s % 2) n s - plV B (gD s % 2) (n - 1) (goG B s 0 (thF (thV B s r) (bN B)).1)
theorem s_thumb {Q : Option Value → mw → Prop} {M : mw} {B : Bd} {s : GS} (hB : bOk B ∨ bN B = 0) (hK : bK B ≤ 5) (hKN : 0 < bK B → bOk B) (hM : MB B M) (hG : MG s M) (hg : gOk B s) (a b c : Int32)
    (q0 : ¬ (vld a 3 ∧ canPl B s b ∧ vld c 2) → Q (some (.int (-nI 1000000000))) M) (q1 : ∀ r n, a = nI r → r ≤ 2 → b = nI n → 1 ≤ n → n ≤ 3 → canPl B s b → vld c 2 → ∀ M', frG M M' → MG s M' → Q (some (.int (thumbR B s r n c))) M') : V_thumb [.ref 0, .int a, .int b, .int c] M Q := by
  have hN : bN B ≤ 36 := bN36 hB
  have hd := hg.2.2.2.2.1
  refine e_thumb (r_thumb_0 (isIn_v a 0 2 _ _ rfl rfl (by omega) (by omega) (r_thumb_9 ⟨fun c0 => ⟨trivial, q0 (fun z => ?_)⟩, fun c0 => ?_⟩)))
  · have := bI_e0 c0
    rw [decide_eq_false_iff_not] at this
    have z1 := z.1
    unfold vld at z1; omega
  have c1 := bI_n0 c0
  rw [decide_eq_true_eq] at c1
  obtain ⟨r, _, hr, er⟩ := rng_ex c1
  refine s_canPlay hN hK hM hG hg b (fun h => r_thumb_17 ⟨fun _ => ⟨trivial, q0 (fun z => h z.2.1)⟩, fun z => absurd rfl z⟩) (fun n en h1 h3 hk h20 h200 => r_thumb_17 ⟨fun z => absurd z (by decide), fun _ => ?_⟩)
  have hcp : canPl B s b := ⟨n, en, h1, h3, hk, h20, h200⟩
  have hB := hKN hk
  refine isIn_v c 0 1 _ _ rfl rfl (by omega) (by omega) (r_thumb_27 ⟨fun c2 => ?_, fun c2 => ⟨trivial, q0 (fun z => ?_)⟩⟩)
  rotate_left
  · have := bI_nn0 c2
    rw [decide_eq_false_iff_not] at this
    have z2 := z.2.2
    unfold vld at z2; omega
  have c3 := bI_n0 c2
  rw [decide_eq_true_eq] at c3
  have hv : vld c 2 := by unfold vld; omega
  have q := q1 r n er hr en h1 h3 hcp hv
  subst er; subst en
  unfold thumbR at q
  have h16 := hg.2.2.2.2.2.1
  refine s_thumbOf hB hk hM hG hg hr (fun M1 f1 g1 => r_thumb_39 ⟨fun c4 => ?_, fun c4 => ⟨trivial, ?_⟩⟩)
  rotate_left
  · have q := q M1 f1 g1
    rw [if_pos (show c = nI 0 from Decidable.not_not.mp c4)] at q; exact q
  rw [if_neg (show ¬ c = nI 0 from c4)] at q
  have hpl : ∀ p, (thF (thV B s r) (bN B)).1 = some p → p < bN B := fun p h => thF_lt h
  generalize (thF (thV B s r) (bN B)).1 = pl at *
  have hM1 := MB_frG f1 hM
  refine s_todays g1.2.2.2.1 (by omega) (r_thumb_52 (s_plays hB hk (goOk_all hB) hM1 g1 hg h1 h3 (by omega) h200 (fun M2 f2 g2 _ _ _ => r_thumb_61 ?_)))
  have hM2 := MB_frG f2 hM1
  refine kk_keeps (l := 4) (by omega) h16 g2 (fun M3 f3 k3 _ => r_thumb_68 ?_)
  have hM3 := MB_fr f3 (by omega) hM2
  refine s_sets hB hM3 (MG_fr f3 (by omega) g2) hg (k := 0) pl (fun p h => ⟨hpl p h, hk, rfl⟩) (fun M4 f4 g4 _ => r_thumb_75 ?_)
  have hM4 := MB_fr f4 (by omega) hM3
  have hg4 : gOk B (goG B s 0 pl) := goOk_all hB s 0 pl hg (by omega) (fun p h => ⟨hpl p h, hk⟩)
  have k4 := MK_fr f4 (by omega) k3
  have f04 : frG M M4 := frG_then (frG_then (frG_trans f1 f2) f3 (by omega)) f4 (by omega)
  have gday : gD (goG B s 0 pl) = gD s + 1 := by cases pl <;> rfl
  have done : ∀ (M5 : mw), frG M4 M5 → MK 4 s M5 → ∀ {o1 o2 o3 o4 o5 o7 o8 : Option Value}, T_thumb Q 100 [some (.ref 0), o1, o2, o3, o4, o5, some (.int (plV B (gD s % 2) n s)), o7, o8] [.int (plV B (gD s % 2) (n - 1) (goG B s 0 pl))] M5 := by
    intro M5 f5 k5 o1 o2 o3 o4 o5 o7 o8
    refine r_thumb_100 (kk_back (l := 4) (by omega) h16 k5 (fun M6 f6 g6 => r_thumb_107 ⟨trivial, ?_⟩))
    exact q M6 (frG_then (frG_trans f04 f5) f6 (by omega)) g6
  have l1 : (nI n = (1 : Int32)) ↔ n = 1 := n_eq (b := 1) (by omega) (by omega)
  rw [l1]
  refine ⟨fun c5 => ?_, fun c5 => ?_⟩
  · have e1 : nI n - 1 = nI (n - 1) := n_sub (b := 1) (by omega)
    rw [e1]
    exact s_plays hB hk (goOk_all hB) hM4 g4 hg4 (by omega) (by omega) (by omega) (by omega) (fun M5 f5 g5 k5 _ _ => done M5 f5 (k5 s h16 k4))
  · have c6 := Decidable.not_not.mp c5
    subst c6
    refine s_valueFor hN hM4 g4 hg4 (by omega) (fun M5 f5 => r_thumb_88 ?_)
    exact done M5 (frG_of f5 (by omega)) (MK_fr f5 (by omega) k4)
