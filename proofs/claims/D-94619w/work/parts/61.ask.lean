/-! what is asked of a state, BorderStonesModel -/
def frG (M M' : mw) : Prop := ∀ k, (k < 56 ∨ (68 < k ∧ k < 73) ∨ 82 < k) → M'.1 k = M.1 k ∧ M'.2 k = M.2 k
theorem frG_refl (M : mw) : frG M M := fun k _ => ⟨rfl, rfl⟩
theorem frG_trans {M M1 M2 : mw} (h : frG M M1) (g : frG M1 M2) : frG M M2 := fun k hk => ⟨(g k hk).1.trans (h k hk).1, (g k hk).2.trans (h k hk).2⟩
theorem frG_of {lo hi : Nat} {M M' : mw} (h : fr lo hi M M') (h1 : 56 ≤ lo ∧ hi ≤ 68 ∨ 73 ≤ lo ∧ hi ≤ 82) : frG M M' := fun k hk => h k (by omega)
theorem frG_then {lo hi : Nat} {M M1 M2 : mw} (g : frG M M1) (h : fr lo hi M1 M2) (h1 : 56 ≤ lo ∧ hi ≤ 68 ∨ 73 ≤ lo ∧ hi ≤ 82) : frG M M2 := frG_trans g (frG_of h h1)
theorem MB_frG {M M' : mw} {B : Bd} (h : frG M M') (hM : MB B M) : MB B M' := by
  obtain ⟨a1, a2, a3, a4, a5, a6⟩ := hM
  refine ⟨?_, ?_, ?_, ?_, ?_, ?_⟩
  · rw [(h 35 (by omega)).1]; exact a1
  · rw [(h 36 (by omega)).1]; exact a2
  · rw [(h 37 (by omega)).1]; exact a3
  · rw [(h 39 (by omega)).1]; exact a4
  · rw [(h 40 (by omega)).1]; exact a5
  · rw [(h 52 (by omega)).1]; exact a6
theorem swOut {a : Int32} {n : Nat} (hn : n < 2147483648) (c : a < 0 ∨ nI n < a) {k : Nat} (hk : k ≤ n) : ¬ a = nI k := by
  intro z
  subst z
  rcases c with c | c
  · have z0 : (0 : Int32) = nI 0 := rfl
    rw [z0, n_lt (by omega) (by omega)] at c; omega
  · rw [n_lt (by omega) (by omega)] at c; omega
def vld (a : Int32) (n : Nat) : Prop := 0 ≤ a.toInt ∧ a.toInt < n
theorem vld_ex {a : Int32} {n : Nat} (h : vld a n) : ∃ k, k < n ∧ a = nI k := by
  refine ⟨a.toInt.toNat, by unfold vld at h; omega, ?_⟩
  have h1 := a.toInt_lt
  rw [← Int32.toInt_inj, n_T (by unfold vld at h; omega)]
  unfold vld at h; omega
theorem vld_n {k n : Nat} (h : k < n) (hn : n < 2147483648) : vld (nI k) n := by
  unfold vld; rw [n_T (by omega)]; omega
noncomputable def hasR (B : Bd) (s : GS) (rl ul : Nat) (a : Int32) : Int32 :=
  if a = nI 0 then nI (bW B) else if a = nI 1 then nI (bH B) else if a = nI 2 then nI (bK B) else if a = nI 3 then nI rl else if a = nI 4 then nI (gD s) else if a = nI 5 then nI (stonesG B (gS s) none none) else if a = nI 6 then nI (gO s).length else if a = nI 7 then nI (cnt (owedAll s)) else if a = nI 8 then nI ul else -nI 1
theorem s12 {B : Bd} {st : Nat → Nat} (hK : bK B ≤ 5) (h : sOk B st) (p : Nat) : st p = 0 ∨ 2 ≤ st p ∧ st p < 12 := by
  have := h p; omega
theorem s_has {Q : Option Value → mw → Prop} {M : mw} {B : Bd} {s : GS} {rl ul : Nat} (hN : bN B ≤ 36) (hK : bK B ≤ 5) (hM : MB B M) (hG : MG s M) (hg : gOk B s) (hr : M.1 37 5 = nI rl) (hu : M.1 71 0 = nI ul) (a : Int32)
    (q : Q (some (.int (hasR B s rl ul a))) M) : V_has [.ref 0, .int a] M Q := by
  have h16 := hg.2.2.2.2.2.1
  have e5 : Int32.toNatClampNeg 5 = 5 := by decide
  have e108 : Int32.toNatClampNeg 108 = 108 := by decide
  have e109 : Int32.toNatClampNeg 109 = 109 := by decide
  have v5 : vp_in (5 : Int32) 6 := (n_in (a := 5) (by omega)).mpr (by omega)
  have v8 : vp_in (108 : Int32) 110 := (n_in (a := 108) (by omega)).mpr (by omega)
  have v9 : vp_in (109 : Int32) 110 := (n_in (a := 109) (by omega)).mpr (by omega)
  refine e_has (r_has_0 ⟨fun c => ⟨trivial, ?_⟩, fun c => ⟨trivial, ?_⟩, fun c => ⟨trivial, ?_⟩, fun c => ?_, fun c => ⟨v5, trivial, ?_⟩, fun c => ⟨v8, trivial, ?_⟩, fun c => ?_, fun c => ⟨v9, trivial, ?_⟩, fun c => ?_, fun c => ⟨trivial, ?_⟩, trivial⟩)
  · have ne := fun k (hk : k ≤ 8) => swOut (n := 8) (by omega) c hk
    rw [hasR, if_neg (ne 0 (by omega)), if_neg (ne 1 (by omega)), if_neg (ne 2 (by omega)), if_neg (ne 3 (by omega)), if_neg (ne 4 (by omega)), if_neg (ne 5 (by omega)), if_neg (ne 6 (by omega)), if_neg (ne 7 (by omega)), if_neg (ne 8 (by omega))] at q
    exact q
  · subst c; simp +decide only [hasR, ↓reduceIte] at q; rw [hM.1]; exact q
  · subst c; simp +decide only [hasR, ↓reduceIte] at q; rw [hM.2.1]; exact q
  · subst c; simp +decide only [hasR, ↓reduceIte] at q
    exact s_kinds hM (r_has_66 ⟨trivial, q⟩)
  · subst c; simp +decide only [hasR, ↓reduceIte] at q; rw [e5, hr]; exact q
  · subst c; simp +decide only [hasR, ↓reduceIte] at q; rw [e108, hG.2.2.2.1]; exact q
  · subst c; simp +decide only [hasR, ↓reduceIte] at q
    exact s_stonesOf hN hM (MG_MS hG) (s12 hK hg.1) none none (fun x h => by cases h) (fun x h => by cases h) (r_has_88 ⟨trivial, q⟩)
  · subst c; simp +decide only [hasR, ↓reduceIte] at q; rw [e109, hG.2.2.2.2.1]; exact q
  · subst c; simp +decide only [hasR, ↓reduceIte] at q
    exact s_allOwed hG h16 (r_has_101 (s_bits _ (r_has_104 ⟨trivial, q⟩)))
  · subst c; simp +decide only [hasR, ↓reduceIte] at q; rw [hu]; exact q
noncomputable def kindR (B : Bd) (s : GS) (k : Nat) (b : Int32) : Int32 :=
  if b = nI 0 then nI (bR B k) else if b = nI 1 then nI (bM B k) else if b = nI 2 then nI (stonesG B (gS s) (some 0) (some k)) else if b = nI 3 then nI (stonesG B (gS s) (some 1) (some k)) else -nI 1
theorem s_kind {Q : Option Value → mw → Prop} {M : mw} {B : Bd} {s : GS} (hN : bN B ≤ 36) (hK : bK B ≤ 5) (hM : MB B M) (hG : MG s M) (hg : gOk B s) (a b : Int32)
    (q0 : ¬ vld a (bK B) → Q (some (.int (-nI 1))) M) (q1 : ∀ k, k < bK B → a = nI k → Q (some (.int (kindR B s k b))) M) : V_kind [.ref 0, .int a, .int b] M Q := by
  refine e_kind (r_kind_0 (s_isKind hK hM a (r_kind_5 ⟨fun c0 => ?_, fun c0 => ⟨trivial, q0 ?_⟩⟩)))
  rotate_left
  · have := bI_nn0 c0
    rw [decide_eq_false_iff_not] at this; exact this
  have c1 := bI_n0 c0
  rw [decide_eq_true_eq] at c1
  obtain ⟨k, hk, e⟩ := vld_ex (a := a) (n := bK B) c1
  have q := q1 k hk e
  subst e
  have e5 : (5 : Int32) + nI k = nI (5 + k) := n_add 5 k
  have v5 : vp_in ((5 : Int32) + nI k) 10 := by rw [e5]; exact (n_in (by omega)).mpr (by omega)
  refine ⟨fun c => ⟨trivial, ?_⟩, fun c => ⟨v5, trivial, ?_⟩, fun c => ⟨v5, trivial, ?_⟩, fun c => ?_, fun c => ?_, trivial⟩
  · have ne := fun k (hk : k ≤ 3) => swOut (n := 3) (by omega) c hk
    rw [kindR, if_neg (ne 0 (by omega)), if_neg (ne 1 (by omega)), if_neg (ne 2 (by omega)), if_neg (ne 3 (by omega))] at q
    exact q
  · subst c; simp +decide only [kindR, ↓reduceIte] at q; rw [e5, n_tn (by omega), hM.2.2.2.1 k hk]; exact q
  · subst c; simp +decide only [kindR, ↓reduceIte] at q; rw [e5, n_tn (by omega), hM.2.2.2.2.1 k hk]; exact q
  · subst c; simp +decide only [kindR, ↓reduceIte] at q
    exact s_stonesOf hN hM (MG_MS hG) (s12 hK hg.1) (some 0) (some k) (fun x h => by cases h; omega) (fun x h => by cases h; omega) (r_kind_66 ⟨trivial, q⟩)
  · subst c; simp +decide only [kindR, ↓reduceIte] at q
    exact s_stonesOf hN hM (MG_MS hG) (s12 hK hg.1) (some 1) (some k) (fun x h => by cases h; omega) (fun x h => by cases h; omega) (r_kind_66 ⟨trivial, q⟩)
noncomputable def placeR (B : Bd) (s : GS) (p : Nat) (b : Int32) : Int32 :=
  if b = nI 0 then (if gS s p = 0 then -nI 1 else nI (gS s p % 2)) else if b = nI 1 then (if gS s p = 0 then -nI 1 else nI (kdG (gS s) p)) else if b = nI 2 then nI (gL s p) - nI 1 else if b = nI 3 then nI (bV B p) else if b = nI 4 then nI (edgA B (gS s) p)
  else if b = nI 5 then nI (if mb (shutG B (gS s) 0) p then 1 else 0) + nI 2 * nI (if mb (shutG B (gS s) 1) p then 1 else 0) else if b = nI 6 then nI (if mb (owedAll s) p then 1 else 0) else if b = nI 7 then gC s p else -nI 1
theorem s_place {Q : Option Value → mw → Prop} {M : mw} {B : Bd} {s : GS} (hB : bOk B ∨ bN B = 0) (hM : MB B M) (hG : MG s M) (hg : gOk B s) (a b : Int32)
    (q0 : ¬ vld a (bN B) → Q (some (.int (-nI 1))) M) (q1 : ∀ p, p < bN B → a = nI p → ∀ M', frG M M' → MG s M' → Q (some (.int (placeR B s p b))) M') : V_place [.ref 0, .int a, .int b] M Q := by
  have hN : bN B ≤ 36 := bN36 hB
  refine e_place (r_place_0 (s_isPlace hN hM a (r_place_5 ⟨fun c0 => ?_, fun c0 => ⟨trivial, q0 ?_⟩⟩)))
  rotate_left
  · have := bI_nn0 c0
    rw [decide_eq_false_iff_not] at this; exact this
  have c1 := bI_n0 c0
  rw [decide_eq_true_eq] at c1
  obtain ⟨p, hp, e⟩ := vld_ex (a := a) (n := bN B) c1
  have q := q1 p hp e
  subst e
  have hB : bOk B := hB.elim id (fun h => by exfalso; omega)
  have hK := hB.2.2.2.2.2.1
  have h16 := hg.2.2.2.2.2.1
  have h12 := s12 hK hg.1
  have h1 := h12 p
  have l2 := hg.2.2.1 p
  have e36 : (36 : Int32) + nI p = nI (36 + p) := n_add 36 p
  have e72 : (72 : Int32) + nI p = nI (72 + p) := n_add 72 p
  have v36 : vp_in ((36 : Int32) + nI p) 110 := by rw [e36]; exact (n_in (by omega)).mpr (by omega)
  have v72 : vp_in ((72 : Int32) + nI p) 110 := by rw [e72]; exact (n_in (by omega)).mpr (by omega)
  have vp : vp_in (nI p) 36 := (n_in (by omega)).mpr (by omega)
  have vp2 : vp_in (nI p) 110 := (n_in (by omega)).mpr (by omega)
  refine ⟨fun c => ⟨trivial, ?_⟩, fun c => ?_, fun c => ?_, fun c => ⟨v36, trivial, ?_⟩, fun c => ⟨vp, trivial, ?_⟩, fun c => ?_, fun c => ?_, fun c => ?_, fun c => ⟨v72, trivial, ?_⟩, trivial⟩
  · have ne := fun k (hk : k ≤ 7) => swOut (n := 7) (by omega) c hk
    have q := q M (frG_refl M) hG
    rw [placeR, if_neg (ne 0 (by omega)), if_neg (ne 1 (by omega)), if_neg (ne 2 (by omega)), if_neg (ne 3 (by omega)), if_neg (ne 4 (by omega)), if_neg (ne 5 (by omega)), if_neg (ne 6 (by omega)), if_neg (ne 7 (by omega))] at q
    exact q
  · subst c
    have q := q M (frG_refl M) hG
    simp +decide only [placeR, ↓reduceIte] at q
    refine s_isFree (MG_MS hG) (fun p => by have := h12 p; omega) (by omega) (r_place_61 ⟨fun c => ?_, fun c => ⟨trivial, ?_⟩⟩)
    · have c2 := bI_e0 c
      rw [decide_eq_false_iff_not] at c2
      rw [if_neg c2] at q
      refine ⟨vp2, by decide, trivial, ?_⟩
      rw [n_tn (by omega), hG.1 p (by omega)]
      have : bs_irem (nI (gS s p)) 2 = nI (gS s p % 2) := n_rem (b := 2) (by omega) (by omega)
      rw [this]; exact q
    · have c2 := bI_n0 c
      rw [decide_eq_true_eq] at c2
      rw [if_pos c2] at q; exact q
  · subst c
    have q := q M (frG_refl M) hG
    simp +decide only [placeR, ↓reduceIte] at q
    refine s_isFree (MG_MS hG) (fun p => by have := h12 p; omega) (by omega) (r_place_82 ⟨fun c => ?_, fun c => r_place_94 ⟨trivial, ?_⟩⟩)
    · have c2 := bI_e0 c
      rw [decide_eq_false_iff_not] at c2
      rw [if_neg c2] at q
      exact s_kindAt (MG_MS hG) (fun p => by have := h12 p; omega) (by omega) (by omega) (r_place_94 ⟨trivial, q⟩)
    · have c2 := bI_n0 c
      rw [decide_eq_true_eq] at c2
      rw [if_pos c2] at q; exact q
  · subst c
    have q := q M (frG_refl M) hG
    simp +decide only [placeR, ↓reduceIte] at q
    rw [e36, n_tn (by omega), hG.2.1 p (by omega)]; exact q
  · subst c
    have q := q M (frG_refl M) hG
    simp +decide only [placeR, ↓reduceIte] at q
    rw [n_tn (by omega), hM.2.2.2.2.2 p hp]; exact q
  · subst c
    simp +decide only [placeR, ↓reduceIte] at q
    exact s_edgesAt hB hM (MG_MS hG) hg.1 (by omega) (fun M1 f1 => r_place_119 ⟨trivial, q M1 (frG_of f1 (by omega)) (MG_fr f1 (by omega) hG)⟩)
  · subst c
    simp +decide only [placeR, ↓reduceIte] at q
    refine s_shutIn (side := 0) (Or.inl hB) hM (MG_MS hG) hg.1 (by omega) (fun M1 f1 _ _ _ => r_place_125 ?_)
    refine s_shutIn (side := 1) (Or.inl hB) (MB_fr f1 (by omega) hM) (MG_MS (MG_fr f1 (by omega) hG)) hg.1 (by omega) (fun M2 f2 _ _ _ => r_place_136 ⟨trivial, ?_⟩)
    have f3 : fr 58 62 M M2 := fr_trans f1 f2 (by omega) (by omega)
    rw [mb_ti _ (by omega), mb_ti _ (by omega)]
    exact q M2 (frG_of f3 (by omega)) (MG_fr f3 (by omega) hG)
  · subst c
    have q := q M (frG_refl M) hG
    simp +decide only [placeR, ↓reduceIte] at q
    refine s_allOwed hG h16 (r_place_148 ⟨trivial, ?_⟩)
    rw [mb_ti _ (by omega)]; exact q
  · subst c
    have q := q M (frG_refl M) hG
    simp +decide only [placeR, ↓reduceIte] at q
    rw [e72, n_tn (by omega), hG.2.2.1 p (by omega)]; exact q
noncomputable def sideR (B : Bd) (s : GS) (x : Nat) (b : Int32) : Int32 :=
  if b = nI 0 then nI (stonesG B (gS s) (some x) none) else if b = nI 1 then nI (linesG B (gS s) x) else if b = nI 2 then nI (cnt (edgeL B (gS s) x)) else if b = nI 3 then nI (cnt (shutG B (gS s) x)) else if b = nI 4 then nI (partsG B (gS s) x).length
  else if b = nI 5 then nI (landG B (gL s) x false) else if b = nI 6 then nI (landG B (gL s) x true) else -nI 1
theorem isIn_v {Q : Option Value → mw → Prop} {M : mw} (a : Int32) (lo hi : Nat) (L H : Int64) (h1 : L = lN lo) (h2 : H = lN hi) (hlo : lo < 1000) (hhi : hi < 1000)
    (k : Q (some (.int (bI (decide ((lo : Int) ≤ a.toInt ∧ a.toInt ≤ hi))))) M) : V_isIn [.long a.toInt64, .long L, .long H] M Q := by
  subst h1; subst h2
  rw [← nI_l (by omega), ← nI_l (n := hi) (by omega)]
  refine s_isIn32 _ _ _ ?_
  rw [n_T (by omega), n_T (by omega)]; exact k
theorem s_side {Q : Option Value → mw → Prop} {M : mw} {B : Bd} {s : GS} (hB : bOk B ∨ bN B = 0) (hK : bK B ≤ 5) (hM : MB B M) (hG : MG s M) (hg : gOk B s) (a b : Int32)
    (q0 : ¬ vld a 2 → Q (some (.int (-nI 1))) M) (q1 : ∀ x, x < 2 → a = nI x → ∀ M', frG M M' → MG s M' → Q (some (.int (sideR B s x b))) M') : V_side [.ref 0, .int a, .int b] M Q := by
  have hN : bN B ≤ 36 := bN36 hB
  refine e_side (r_side_0 (isIn_v a 0 1 _ _ rfl rfl (by omega) (by omega) (r_side_7 ⟨fun c0 => ?_, fun c0 => ⟨trivial, q0 ?_⟩⟩)))
  rotate_left
  · have := bI_nn0 c0
    rw [decide_eq_false_iff_not] at this
    unfold vld; omega
  have c1 := bI_n0 c0
  rw [decide_eq_true_eq] at c1
  obtain ⟨x, hx, e⟩ := vld_ex (a := a) (n := 2) (by unfold vld; omega)
  have q := q1 x hx e
  subst e
  have h12 := s12 hK hg.1
  refine s_shutIn hB hM (MG_MS hG) hg.1 hx (fun M1 f1 ee ll nn => r_side_17 ?_)
  have hM1 := MB_fr f1 (by omega) hM
  have hG1 := MG_fr f1 (by omega) hG
  have q := q M1 (frG_of f1 (by omega)) hG1
  refine ⟨fun c => ⟨trivial, ?_⟩, fun c => ?_, fun c => ⟨trivial, ?_⟩, fun c => ?_, fun c => ?_, fun c => ⟨trivial, ?_⟩, fun c => ?_, fun c => ?_, trivial⟩
  · have ne := fun k (hk : k ≤ 6) => swOut (n := 6) (by omega) c hk
    rw [sideR, if_neg (ne 0 (by omega)), if_neg (ne 1 (by omega)), if_neg (ne 2 (by omega)), if_neg (ne 3 (by omega)), if_neg (ne 4 (by omega)), if_neg (ne 5 (by omega)), if_neg (ne 6 (by omega))] at q
    exact q
  · subst c; simp +decide only [sideR, ↓reduceIte] at q
    exact s_stonesOf hN hM1 (MG_MS hG1) h12 (some x) none (fun y h => by cases h; omega) (fun y h => by cases h) (r_side_66 ⟨trivial, q⟩)
  · subst c; simp +decide only [sideR, ↓reduceIte] at q; rw [ll]; exact q
  · subst c; simp +decide only [sideR, ↓reduceIte] at q
    rw [ee]; exact s_bits _ (r_side_79 ⟨trivial, q⟩)
  · subst c; simp +decide only [sideR, ↓reduceIte] at q
    exact s_bits _ (r_side_84 ⟨trivial, q⟩)
  · subst c; simp +decide only [sideR, ↓reduceIte] at q; rw [nn]; exact q
  · subst c; simp +decide only [sideR, ↓reduceIte] at q
    exact s_landOf hN hM1 hG1.2.1 hg.2.2.1 hx false (r_side_96 ⟨trivial, q⟩)
  · subst c; simp +decide only [sideR, ↓reduceIte] at q
    exact s_landOf hN hM1 hG1.2.1 hg.2.2.1 hx true (r_side_103 ⟨trivial, q⟩)
