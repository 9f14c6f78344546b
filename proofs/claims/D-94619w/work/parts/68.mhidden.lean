/-! what is hidden, BorderStonesModel -/
theorem i_and (a b : Nat) : nI a &&& nI b = nI (a &&& b) := by
  apply Int32.toBitVec_inj.mp
  show BitVec.ofNat 32 a &&& BitVec.ofNat 32 b = BitVec.ofNat 32 (a &&& b)
  rw [BitVec.ofNat_and]
theorem ib_shm {k : Nat} (hk : k < 32) : ((nI k &&& 31).toBitVec.smod 32).toNat = k := by
  have : ∀ k, k < 32 → ((nI k &&& 31).toBitVec.smod 32).toNat = k := by decide
  exact this k hk
theorem i_shr {w k : Nat} (hw : w < 2147483648) (hk : k < 32) : nI w >>> (nI k &&& 31) = nI (w / 2 ^ k) := by
  apply Int32.toBitVec_inj.mp
  rw [Int32.toBitVec_shiftRight, BitVec.sshiftRight', ib_shm hk]
  show (BitVec.ofNat 32 w).sshiftRight k = BitVec.ofNat 32 (w / 2 ^ k)
  have hm : (BitVec.ofNat 32 w).msb = false := by
    rw [BitVec.msb_eq_decide]; simp; omega
  rw [BitVec.sshiftRight_eq_of_msb_false hm]
  apply BitVec.eq_of_toNat_eq
  rw [BitVec.toNat_ushiftRight, BitVec.toNat_ofNat, BitVec.toNat_ofNat, Nat.shiftRight_eq_div_pow, Nat.mod_eq_of_lt (show w < 2 ^ 32 by omega), Nat.mod_eq_of_lt]
  exact Nat.lt_of_le_of_lt (Nat.div_le_self _ _) (by omega)
theorem i_bit {w k : Nat} (hw : w < 2147483648) (hk : k < 32) : (nI w >>> (nI k &&& 31)) &&& 1 = nI (if w.testBit k then 1 else 0) := by
  rw [i_shr hw hk, show (1 : Int32) = nI 1 from rfl, i_and, Nat.and_one_is_mod, Nat.testBit_eq_decide_div_mod_eq]
  have := Nat.mod_two_eq_zero_or_one (w / 2 ^ k)
  rcases this with h | h <;> simp [h]
theorem i_bit1 {w k : Nat} (hw : w < 2147483648) (hk : k < 32) : ((nI w >>> (nI k &&& 31)) &&& 1 = 1) ↔ w.testBit k = true := by
  rw [i_bit hw hk]; cases w.testBit k <;> decide
/-- how many bits a number below 4096 has -/
def pcN (w : Nat) : Nat := smP (fun k => if w.testBit k = true then 1 else 0) 12
theorem lowW {w : Nat} (h0 : w ≠ 0) (h : w < 4096) : ∃ k, k < 12 ∧ w.testBit k = true ∧ ∀ j, j < k → w.testBit j = false := by
  rcases lowN (f := w.testBit) 12 with g | g
  · exact g
  · exfalso; apply h0
    apply Nat.eq_of_testBit_eq
    intro i
    rw [Nat.zero_testBit]
    rcases Nat.lt_or_ge i 12 with c | c
    · exact g i c
    · exact Nat.testBit_lt_two_pow (Nat.lt_of_lt_of_le (show w < 2 ^ 12 from h) (Nat.pow_le_pow_right (by omega) c))
theorem smP_drop {f g : Nat → Nat} {k n : Nat} (hk : k < n) (h1 : f k = g k + 1) (h : ∀ j, j ≠ k → f j = g j) : smP f n = smP g n + 1 := by
  induction n with
  | zero => omega
  | succ n ih =>
    unfold smP
    by_cases e : k = n
    · subst e
      rw [smP_cong (fun p hp => h p (by omega)), h1]; omega
    · rw [ih (by omega), h n (fun z => e z.symm)]; omega
theorem pcN_drop {w : Nat} (h0 : w ≠ 0) (h : w < 4096) : pcN (w &&& (w - 1)) + 1 = pcN w := by
  obtain ⟨k, k1, k2, k3⟩ := lowW h0 h
  unfold pcN
  refine (smP_drop k1 ?_ (fun j hj => ?_)).symm
  · rw [Nat.testBit_and, nat_sub1 k2 k3]; simp [k2]
  · rw [Nat.testBit_and, nat_sub1 k2 k3]
    by_cases c : j < k
    · simp [k3 j c]
    · simp [c, hj]
theorem pcN_0 : pcN 0 = 0 := by decide
theorem pcN_le (w : Nat) : pcN w ≤ 12 := by
  have := smP_le (f := fun k => if w.testBit k = true then 1 else 0) (c := 1) (fun p => by split <;> omega) 12
  unfold pcN; omega
theorem s_bitsOf {Q : Option Value → mw → Prop} {M : mw} {w : Nat} (hw : w < 4096) (q : Q (some (.int (nI (pcN w)))) M) : V_bitsOf [.int (nI w)] M Q := by
  have main : ∀ (f t n : Nat), t < 4096 → pcN t = f → n + f = pcN w → ∀ {o0 : Option Value}, T_bitsOf Q 4 [o0, some (.int (nI n)), some (.int (nI t))] [] M := by
    intro f
    induction f with
    | zero =>
      intro t n ht h1 h2 o0
      refine r_bitsOf_4 ⟨fun c => ⟨trivial, ?_⟩, fun c => ?_⟩
      · rw [show n = pcN w from by omega]; exact q
      · have : t ≠ 0 := fun z => c (by rw [z]; rfl)
        have := pcN_drop this ht
        omega
    | succ f ih =>
      intro t n ht h1 h2 o0
      refine r_bitsOf_4 ⟨fun c => ?_, fun c => ?_⟩
      · have : t = 0 := (n_eq (b := 0) (by omega) (by omega)).mp c
        rw [this, pcN_0] at h1; omega
      · have h0 : t ≠ 0 := fun z => c (by rw [z]; rfl)
        have := pcN_drop h0 ht
        have e : nI n + 1 = nI (n + 1) := n_add n 1
        have e2 : nI t - 1 = nI (t - 1) := n_sub (b := 1) (by omega)
        rw [e, e2, i_and]
        refine ih _ (n + 1) ?_ (by omega) (by omega)
        exact Nat.lt_of_le_of_lt Nat.and_le_left ht
  exact e_bitsOf (r_bitsOf_0 (main (pcN w) w 0 hw rfl (by omega)))
theorem gd_l {L M : List Nat} {k : Nat} (h : k < L.length) : (L ++ M).getD k 0 = L.getD k 0 := by
  rw [List.getD_eq_getElem?_getD, List.getD_eq_getElem?_getD, List.getElem?_append_left h]
theorem gd_r {L : List Nat} {p : Nat} : (L ++ [p]).getD L.length 0 = p := by
  rw [List.getD_eq_getElem?_getD, List.getElem?_append_right (Nat.le_refl _), Nat.sub_self]; rfl
def hfL (set : Int64) (st : Nat → Nat) : Nat → List Nat
  | 0 => []
  | p + 1 => if (mb set p && decide (st p = 0)) = true then hfL set st p ++ [p] else hfL set st p
theorem hfL_mem {set : Int64} {st : Nat → Nat} {n p : Nat} : p ∈ hfL set st n ↔ p < n ∧ mb set p = true ∧ st p = 0 := by
  induction n with
  | zero => simp [hfL]
  | succ n ih =>
    unfold hfL
    split
    · rename_i c
      rw [Bool.and_eq_true, decide_eq_true_eq] at c
      rw [List.mem_append, ih, List.mem_singleton]
      constructor
      · rintro (⟨h1, h2⟩ | h)
        · exact ⟨by omega, h2⟩
        · subst h; exact ⟨by omega, c⟩
      · intro ⟨h1, h2⟩
        by_cases e : p = n
        · exact Or.inr e
        · exact Or.inl ⟨by omega, h2⟩
    · rename_i c
      rw [ih]
      constructor
      · intro ⟨h1, h2⟩; exact ⟨by omega, h2⟩
      · intro ⟨h1, h2, h3⟩
        refine ⟨?_, h2, h3⟩
        by_cases e : p = n
        · subst e; exact absurd (by rw [h2, decide_eq_true h3]; rfl) c
        · omega
theorem hfL_srt (set : Int64) (st : Nat → Nat) (n : Nat) : (hfL set st n).Pairwise (fun a b => a < b) := by
  induction n with
  | zero => exact List.Pairwise.nil
  | succ n ih =>
    unfold hfL
    split
    · refine List.pairwise_append.mpr ⟨ih, List.pairwise_singleton _ _, fun a ha b hb => ?_⟩
      rw [List.mem_singleton] at hb
      have := (hfL_mem.mp ha).1
      omega
    · exact ih
theorem srt_get {L : List Nat} (h : L.Pairwise (fun a b => a < b)) {i j : Nat} (hij : i < j) (hj : j < L.length) : L.getD i 0 < L.getD j 0 := by
  have := List.pairwise_iff_getElem.mp h i j (by omega) hj hij
  rw [List.getD_eq_getElem?_getD, List.getD_eq_getElem?_getD, List.getElem?_eq_getElem (by omega), List.getElem?_eq_getElem hj]
  exact this
theorem srt_inj {L : List Nat} (h : L.Pairwise (fun a b => a < b)) {i j : Nat} (hi : i < L.length) (hj : j < L.length) (e : L.getD i 0 = L.getD j 0) : i = j := by
  rcases Nat.lt_trichotomy i j with c | c | c
  · have := srt_get h c hj; omega
  · exact c
  · have := srt_get h c hi; omega
theorem getD_mem {L : List Nat} {i : Nat} (hi : i < L.length) : L.getD i 0 ∈ L := by
  rw [List.getD_eq_getElem?_getD, List.getElem?_eq_getElem hi]; exact List.getElem_mem hi
theorem mem_getD {L : List Nat} {p : Nat} (h : p ∈ L) : ∃ i, i < L.length ∧ L.getD i 0 = p := by
  obtain ⟨i, hi, e⟩ := List.mem_iff_getElem.mp h
  exact ⟨i, hi, by rw [List.getD_eq_getElem?_getD, List.getElem?_eq_getElem hi]; exact e⟩
/-- the stones of a way -/
def hst (st : Nat → Nat) (fl : List Nat) (side way : Nat) : Nat → (Nat → Nat)
  | 0 => st
  | k + 1 => if way.testBit k = true then upN (hst st fl side way k) (fl.getD k 0) (2 + side) else hst st fl side way k
def unst (f : Nat → Nat) (fl : List Nat) : Nat → (Nat → Nat)
  | 0 => f
  | k + 1 => upN (unst f fl k) (fl.getD k 0) 0
theorem hst_off {st : Nat → Nat} {fl : List Nat} {side way p : Nat} {k : Nat} (h : ∀ j, j < k → fl.getD j 0 ≠ p) : hst st fl side way k p = st p := by
  induction k with
  | zero => rfl
  | succ k ih =>
    unfold hst
    split
    · unfold upN; rw [if_neg (fun z => h k (by omega) z.symm)]; exact ih (fun j hj => h j (by omega))
    · exact ih (fun j hj => h j (by omega))
theorem unst_at {f : Nat → Nat} {fl : List Nat} {k p : Nat} : ((∃ j, j < k ∧ fl.getD j 0 = p) → unst f fl k p = 0) ∧ ((∀ j, j < k → fl.getD j 0 ≠ p) → unst f fl k p = f p) := by
  induction k with
  | zero => exact ⟨fun ⟨j, h, _⟩ => by omega, fun _ => rfl⟩
  | succ k ih =>
    constructor
    · intro ⟨j, h1, h2⟩
      unfold unst upN
      by_cases e : p = fl.getD k 0
      · rw [if_pos e]
      · rw [if_neg e]
        refine ih.1 ⟨j, ?_, h2⟩
        rcases Nat.lt_or_ge j k with c | c
        · exact c
        · exact absurd (by rw [← h2]; congr 1; omega) e
    · intro h
      unfold unst upN
      rw [if_neg (fun z => h k (by omega) z.symm)]
      exact ih.2 (fun j hj => h j (by omega))
theorem unst_hst {st : Nat → Nat} {fl : List Nat} {side way n : Nat} (h : ∀ k, k < n → st (fl.getD k 0) = 0) : unst (hst st fl side way n) fl n = st := by
  funext p
  by_cases c : ∃ j, j < n ∧ fl.getD j 0 = p
  · rw [unst_at.1 c]
    obtain ⟨j, h1, h2⟩ := c
    rw [← h2, h j h1]
  · have c' : ∀ j, j < n → fl.getD j 0 ≠ p := fun j hj e => c ⟨j, hj, e⟩
    rw [unst_at.2 c', hst_off c']
theorem hst_ok {B : Bd} {st : Nat → Nat} {fl : List Nat} {side way : Nat} (h : sOk B st) (hk : 0 < bK B) (hs : side < 2) (k : Nat) : sOk B (hst st fl side way k) := by
  induction k with
  | zero => exact h
  | succ k ih =>
    unfold hst
    split
    · exact sOk_up (k := 0) ih hk hs
    · exact ih
noncomputable def wayOk (B : Bd) (st : Nat → Nat) (fl : List Nat) (side told way : Nat) : Bool := mb (shutG B (hst st fl side way fl.length) side) told
noncomputable def hwF (B : Bd) (st : Nat → Nat) (fl : List Nat) (side many told way : Nat) : Bool := decide (pcN way = many) && wayOk B st fl side told way
noncomputable def hwA (B : Bd) (st : Nat → Nat) (fl : List Nat) (side many told w : Nat) : Nat := smP (fun way => if hwF B st fl side many told way = true then 1 else 0) w
noncomputable def hwK (B : Bd) (st : Nat → Nat) (fl : List Nat) (side many told k w : Nat) : Nat := smP (fun way => if (hwF B st fl side many told way && way.testBit k) = true then 1 else 0) w
/-- may something be hidden so -/
def hidIn (set : Int64) (N : Nat) : Prop := ∀ p, N ≤ p → p < 64 → mb set p = false
def hidOk (B : Bd) (s : GS) (set : Int64) (a b c : Int32) : Prop := 0 < bK B ∧ bN B ≠ 0 ∧ hidIn set (bN B) ∧ vld a 2 ∧ ((1 : Int) ≤ b.toInt ∧ b.toInt ≤ 3) ∧ vld c (bN B) ∧ (hfL set (gS s) (bN B)).length ≤ 12
theorem mb_shr2 (x : Int64) {k p : Nat} (hk : k < 64) (hp : p < 64) : mb (x >>> ((nI k).toInt64 &&& 63)) p = if p + k < 64 then mb x (p + k) else mb x 63 := by
  unfold mb
  rw [Int64.toBitVec_shiftRight, BitVec.sshiftRight', mb_shm hk, BitVec.getLsbD_sshiftRight]
  have h1 : ¬ (64 ≤ p) := by omega
  by_cases c : k + p < 64
  · simp [h1, c, Nat.add_comm]
  · have c2 : ¬ (p + k < 64) := by omega
    simp [h1, c, c2, BitVec.msb_eq_getLsbD_last]
theorem mb_neg (x : Int64) : x < 0 ↔ mb x 63 = true := by
  rw [Int64.lt_iff_toInt_lt, show (0 : Int64).toInt = 0 from rfl, mb, ← Int64.toInt_toBitVec]
  rw [← BitVec.msb_eq_getLsbD_last, BitVec.msb_eq_toInt]
  simp
theorem shr_0 {x : Int64} {N : Nat} (hN : N < 64) (h : ¬ x < 0) : x >>> ((nI N).toInt64 &&& 63) = 0 ↔ hidIn x N := by
  rw [mb_neg] at h
  constructor
  · intro e p h1 h2
    have := mb_shr2 x (k := N) (p := p - N) hN (by omega)
    rw [e, mb_0, if_pos (by omega), show p - N + N = p from by omega] at this
    exact this.symm
  · intro g
    apply mb_ext
    intro p hp
    rw [mb_shr2 x hN hp, mb_0]
    split
    · exact g _ (by omega) (by omega)
    · simpa using h
theorem pw_lt {n : Nat} (h : n ≤ 12) : 2 ^ n ≤ 4096 := Nat.pow_le_pow_right (n := 2) (by omega) h
theorem i_pow {n : Nat} (h : n ≤ 12) : (1 : Int32) <<< (nI n &&& 31) = nI (2 ^ n) := by
  have : ∀ n, n < 13 → (1 : Int32) <<< (nI n &&& 31) = nI (2 ^ n) := by decide
  exact this n (by omega)
theorem s_isHidden {Q : Option Value → mw → Prop} {M : mw} {B : Bd} {s : GS} (hB : bOk B ∨ bN B = 0) (hK : bK B ≤ 5) (hM : MB B M) (hG : MG s M) (hg : gOk B s) (set : Int64) (a b c : Int32)
    (q0 : ¬ hidOk B s set a b c → ∀ M', frG M M' → MG s M' → Q (some (.int (nI 0))) M')
    (q1 : ∀ side many told, a = nI side → side < 2 → b = nI many → 1 ≤ many → many ≤ 3 → c = nI told → told < bN B → hidOk B s set a b c → ∀ M', frG M M' → MG s M' →
      M'.1 82 0 = nI (hwA B (gS s) (hfL set (gS s) (bN B)) side many told (2 ^ (hfL set (gS s) (bN B)).length)) → (∀ k, k < (hfL set (gS s) (bN B)).length → M'.1 81 ((hfL set (gS s) (bN B)).getD k 0) = nI (hwK B (gS s) (hfL set (gS s) (bN B)) side many told k (2 ^ (hfL set (gS s) (bN B)).length))) →
      (∀ p, p < bN B → p ∉ hfL set (gS s) (bN B) → M'.1 81 p = nI 0) → Q (some (.int (nI 1))) M') : V_isHidden [.ref 0, .long set, .int a, .int b, .int c] M Q := by
  have hN : bN B ≤ 36 := bN36 hB
  have h12 := s12 hK hg.1
  have l0 := lc_eq
  have eK : (nI (bK B) = (0 : Int32)) ↔ bK B = 0 := n_eq (b := 0) (by omega) (by omega)
  have eN : (nI (bN B) = (0 : Int32)) ↔ bN B = 0 := n_eq (b := 0) (by omega) (by omega)
  have no : ¬ hidOk B s set a b c → Q (some (.int (nI 0))) M := fun h => q0 h M (frG_refl M) hG
  refine e_isHidden (r_isHidden_0 (s_kinds hM (r_isHidden_4 ?_)))
  rw [eK, lg_cmp_lt]
  refine ⟨fun d1 => ⟨nr_0, no (fun z => by have := z.1; omega)⟩, fun d1 => ⟨fun d2 => ⟨nr_0, no (fun z => ?_)⟩, fun d2 => ?_⟩⟩
  · rw [mb_neg] at d2
    rw [z.2.2.1 63 (by omega) (by omega)] at d2; cases d2
  refine s_places hM (r_isHidden_17 ?_)
  rw [eN]
  refine ⟨fun d3 => ⟨nr_0, no (fun z => z.2.1 d3)⟩, fun d3 => s_places hM (r_isHidden_25 ?_)⟩
  have hB : bOk B := hB.elim id (fun h => by exfalso; exact absurd h d3)
  rw [lg_cmp_eq, shr_0 (by omega) d2]
  refine ⟨fun d4 => ⟨nr_0, no (fun z => d4 z.2.2.1)⟩, fun d4 => ?_⟩
  have d4 : hidIn set (bN B) := Classical.not_not.mp d4
  refine isIn_v a 0 1 _ _ rfl rfl (by omega) (by omega) (r_isHidden_38 ⟨fun d5 => ⟨nr_0, no (fun z => ?_)⟩, fun d5 => ?_⟩)
  · have := bI_e0 d5
    rw [decide_eq_false_iff_not] at this
    have z2 := z.2.2.2.1
    unfold vld at z2; omega
  have d5 := bI_n0 d5
  rw [decide_eq_true_eq] at d5
  obtain ⟨side, hs, ea⟩ := vld_ex (a := a) (n := 2) (by unfold vld; omega)
  refine isIn_v b 1 3 _ _ rfl rfl (by omega) (by omega) (r_isHidden_51 ⟨fun d6 => ⟨nr_0, no (fun z => ?_)⟩, fun d6 => ?_⟩)
  · have := bI_e0 d6
    rw [decide_eq_false_iff_not] at this
    exact this z.2.2.2.2.1
  have d6 := bI_n0 d6
  rw [decide_eq_true_eq] at d6
  obtain ⟨many, m1, m3, eb⟩ := rng_ex d6
  refine s_isPlace hN hM c (r_isHidden_60 ⟨fun d7 => ?_, fun d7 => ⟨nr_0, no (fun z => ?_)⟩⟩)
  rotate_left
  · have := bI_nn0 d7
    rw [decide_eq_false_iff_not] at this
    exact this z.2.2.2.2.2.1
  have d7 := bI_n0 d7
  rw [decide_eq_true_eq] at d7
  obtain ⟨told, ht, ec⟩ := vld_ex (a := c) (n := bN B) d7
  have hsemi : (hfL set (gS s) (bN B)).length ≤ 12 → hidOk B s set a b c := fun h => ⟨by omega, d3, d4, by rw [ea]; exact vld_n hs (by omega), d6, d7, h⟩
  have q2 := q1 side many told ea hs eb m1 m3 ec ht
  subst ea; subst eb; subst ec
  -- the free places
  refine upTo (bN B) (fun p (M1 : mw) => frG M M1 ∧ MG s M1 ∧ (hfL set (gS s) p).length ≤ 12 ∧ (∀ k, k < (hfL set (gS s) p).length → M1.1 80 k = nI ((hfL set (gS s) p).getD k 0)) ∧ ∀ u, u < p → M1.1 81 u = nI 0)
    (fun p M1 => ∀ {o2 o8 o9 : Option Value}, T_isHidden Q 71 [some (.ref 0), some (.long set), o2, some (.int (nI side)), some (.int (nI many)), some (.int (nI told)), some (.int (nI (hfL set (gS s) p).length)), some (.int (nI p)), o8, o9] [] M1) ?_ ?_ 0 M (by omega) ⟨frG_refl M, hG, Nat.zero_le _, (fun k hk => absurd hk (Nat.not_lt_zero k)), fun u hu => by omega⟩
  rotate_left
  · intro p M1 hp ⟨f1, g1, n1, a1, z1⟩ next o2 o8 o9
    have hM1 := MB_frG f1 hM
    have e1 : nI p + 1 = nI (p + 1) := n_add p 1
    have fu : fr 81 81 M1 (mM_up M1 81 p (nI 0)) := fr_up M1 _ _ (by omega)
    have zu : ∀ u, u < p + 1 → (mM_up M1 81 p (nI 0)).1 81 u = nI 0 := fun u hu => by
      rw [m_up]
      by_cases e : u = p
      · rw [if_pos ⟨rfl, e⟩]
      · rw [if_neg (by omega)]; exact z1 u (by omega)
    have skip : (mb set p && decide (gS s p = 0)) = false → ∀ {o2 o8 o9 : Option Value}, T_isHidden Q 71 [some (.ref 0), some (.long set), o2, some (.int (nI side)), some (.int (nI many)), some (.int (nI told)), some (.int (nI (hfL set (gS s) p).length)), some (.int (nI (p + 1))), o8, o9] [] (mM_up M1 81 p (nI 0)) := by
      intro hz o2 o8 o9
      have e2 : hfL set (gS s) (p + 1) = hfL set (gS s) p := by
        conv => lhs; unfold hfL
        rw [if_neg (by rw [hz]; simp)]
      have := next _ ⟨frG_then f1 fu (by omega), MG_fr fu (by omega) g1, by rw [e2]; exact n1, fun k hk => by
        rw [e2] at hk ⊢
        rw [(fu 80 (by omega)).1]; exact a1 k hk, zu⟩ (o2 := o2) (o8 := o8) (o9 := o9)
      rw [e2] at this; exact this
    refine r_isHidden_71 (s_places hM1 (r_isHidden_77 ⟨fun z => ?_, fun _ => ?_⟩))
    · rw [n_le (by omega) (by omega)] at z; omega
    rw [n_tn (by omega), e1]
    refine ⟨(n_in (by omega)).mpr (by omega), ?_⟩
    rw [lg_cmp_eq, mb_t0 set (by omega)]
    refine ⟨fun z => skip (by rw [z]; rfl), fun z => ?_⟩
    have z' : mb set p = true := by simpa using z
    refine s_isFree (MG_MS (MG_fr fu (by omega) g1)) (fun p => by have := h12 p; omega) (by omega) (r_isHidden_105 ?_)
    have l12 : (nI (hfL set (gS s) p).length = (12 : Int32)) ↔ (hfL set (gS s) p).length = 12 := n_eq (b := 12) (by omega) (by omega)
    rw [l12, e1, n_tn (by omega)]
    refine ⟨fun y => ⟨fun x => ⟨(n_in (by omega)).mpr (by omega), ?_⟩, fun x => ⟨nr_0, ?_⟩⟩, fun y => ?_⟩
    · have y' := bI_n0 y
      have e2 : hfL set (gS s) (p + 1) = hfL set (gS s) p ++ [p] := by
        conv => lhs; unfold hfL
        rw [if_pos (by rw [z', y']; rfl)]
      have fv : fr 80 81 M1 (mM_up (mM_up M1 81 p (nI 0)) 80 (hfL set (gS s) p).length (nI p)) := fr_trans (fr_up (lo := 80) (hi := 81) M1 _ _ (by omega)) (fr_up (lo := 80) (hi := 81) _ _ _ (by omega)) (by omega) (by omega)
      have := fun {o2 o8 o9} => next _ ⟨frG_then f1 fv (by omega), MG_fr fv (by omega) g1, by rw [e2, List.length_append, List.length_singleton]; omega, fun k hk => by
        rw [e2, List.length_append, List.length_singleton] at hk
        rw [e2, m_up]
        by_cases e : k = (hfL set (gS s) p).length
        · rw [if_pos ⟨rfl, e⟩, e, gd_r]
        · rw [if_neg (by omega), gd_l (by omega), (fu 80 (by omega)).1]; exact a1 k (by omega), fun u hu => by
        rw [m_up, if_neg (by omega)]; exact zu u hu⟩ (o2 := o2) (o8 := o8) (o9 := o9)
      rw [e2, List.length_append, List.length_singleton] at this
      rw [show nI (hfL set (gS s) p).length + 1 = nI ((hfL set (gS s) p).length + 1) from n_add _ 1]
      exact this
    · have y' := bI_n0 y
      have x' := Decidable.not_not.mp x
      refine q0 (fun zz => ?_) _ (frG_then f1 fu (by omega)) (MG_fr fu (by omega) g1)
      have e2 : hfL set (gS s) (p + 1) = hfL set (gS s) p ++ [p] := by
        conv => lhs; unfold hfL
        rw [if_pos (by rw [z', y']; rfl)]
      have mono : ∀ m, p + 1 ≤ m → 13 ≤ (hfL set (gS s) m).length := by
        intro m hm
        induction m with
        | zero => omega
        | succ m ih =>
          by_cases e : p + 1 = m + 1
          · rw [← e, e2, List.length_append, List.length_singleton]; omega
          · have := ih (by omega)
            unfold hfL; split
            · rw [List.length_append]; omega
            · exact this
      have := mono (bN B) (by omega)
      have := zz.2.2.2.2.2.2
      omega
    · exact skip (by rw [bI_nn0 y, Bool.and_false])
  intro M1 ⟨f1, g1, n1, a1, z1⟩ o2 o8 o9
  have q3 := q2 (hsemi n1)
  have hmem : ∀ k, k < (hfL set (gS s) (bN B)).length → (hfL set (gS s) (bN B)).getD k 0 < bN B ∧ gS s ((hfL set (gS s) (bN B)).getD k 0) = 0 := fun k hk => by
    have := hfL_mem.mp (getD_mem hk)
    exact ⟨this.1, this.2.2⟩
  have hinj : ∀ i j, i < (hfL set (gS s) (bN B)).length → j < (hfL set (gS s) (bN B)).length → (hfL set (gS s) (bN B)).getD i 0 = (hfL set (gS s) (bN B)).getD j 0 → i = j := fun i j hi hj => srt_inj (hfL_srt _ _ _) hi hj
  generalize hfl : hfL set (gS s) (bN B) = fl at *
  refine r_isHidden_71 (s_places (MB_frG f1 hM) (r_isHidden_77 ⟨fun _ => ?_, fun z => ?_⟩))
  rotate_left
  · rw [n_le (by omega) (by omega)] at z; omega
  have p2 := pw_lt n1
  have f82 : fr 82 82 M1 (mM_up M1 82 0 0) := fr_up M1 _ _ (by omega)
  have hk0 : 0 < bK B := by omega
  refine upTo (2 ^ fl.length) (fun w (M2 : mw) => frG M M2 ∧ MG s M2 ∧ (∀ k, k < fl.length → M2.1 80 k = nI (fl.getD k 0)) ∧ M2.1 82 0 = nI (hwA B (gS s) fl side many told w) ∧ (∀ k, k < fl.length → M2.1 81 (fl.getD k 0) = nI (hwK B (gS s) fl side many told k w)) ∧ ∀ p, p < bN B → p ∉ fl → M2.1 81 p = nI 0)
    (fun w M2 => ∀ {o1 o2 o8 o9 : Option Value}, T_isHidden Q 146 [some (.ref 0), o1, o2, some (.int (nI side)), some (.int (nI many)), some (.int (nI told)), some (.int (nI fl.length)), some (.int (nI w)), o8, o9] [] M2) ?_ ?_ 0 _ (Nat.zero_le _) ⟨frG_then f1 f82 (by omega), MG_fr f82 (by omega) g1, fun k hk => by rw [(f82 80 (by omega)).1]; exact a1 k hk, by rw [m_up, if_pos ⟨rfl, rfl⟩]; rfl, fun k hk => by rw [(f82 81 (by omega)).1, z1 _ (hmem k hk).1]; rfl, fun p hp _ => by rw [(f82 81 (by omega)).1]; exact z1 p hp⟩
  · intro M2 ⟨f2, g2, a2, b2, c2, d2⟩ o1 o2 o8 o9
    refine r_isHidden_146 ?_
    rw [i_pow n1, n_le (by omega) (by omega)]
    exact ⟨fun _ => ⟨nr_1, q3 M2 f2 g2 b2 c2 d2⟩, fun z => by omega⟩
  · intro w M2 hw ⟨f2, g2, a2, b2, c2, d2⟩ next o1 o2 o8 o9
    have ew : nI w + 1 = nI (w + 1) := n_add w 1
    have hw4 : w < 4096 := by omega
    have skip : hwF B (gS s) fl side many told w = false → ∀ M3, frG M M3 → MG s M3 → (∀ k, k < fl.length → M3.1 80 k = nI (fl.getD k 0)) → M3.1 82 0 = M2.1 82 0 → M3.1 81 = M2.1 81 → ∀ {o1 o2 o8 o9 : Option Value}, T_isHidden Q 146 [some (.ref 0), o1, o2, some (.int (nI side)), some (.int (nI many)), some (.int (nI told)), some (.int (nI fl.length)), some (.int (nI (w + 1))), o8, o9] [] M3 := by
      intro hz M3 f3 g3 a3 b3 c3
      refine next M3 ⟨f3, g3, a3, ?_, fun k hk => ?_, fun p hp hn => by rw [c3]; exact d2 p hp hn⟩
      · rw [b3, b2]; conv => rhs; unfold hwA smP
        rw [hz]; rfl
      · rw [c3, c2 k hk]; conv => rhs; unfold hwK smP
        rw [hz]; rfl
    refine r_isHidden_146 ?_
    rw [i_pow n1, n_le (by omega) (by omega)]
    refine ⟨fun z => by omega, fun _ => ?_⟩
    refine s_bitsOf hw4 (r_isHidden_160 ?_)
    have pl := pcN_le w
    rw [n_eq (by omega) (by omega), ew]
    refine ⟨fun z => ?_, fun z => skip (by unfold hwF; rw [decide_eq_false z]; rfl) M2 f2 g2 a2 rfl rfl⟩
    -- the stones are laid
    refine upTo fl.length (fun k (M3 : mw) => frG M M3 ∧ fr 56 56 M2 M3 ∧ MG (hst (gS s) fl side w k, gL s, gC s, gD s, gO s) M3)
      (fun k M3 => ∀ {o1 o2 o9 : Option Value}, T_isHidden Q 171 [some (.ref 0), o1, o2, some (.int (nI side)), some (.int (nI many)), some (.int (nI told)), some (.int (nI fl.length)), some (.int (nI w)), some (.int (nI k)), o9] [] M3) ?_ ?_ 0 M2 (Nat.zero_le _) ⟨f2, fr_refl _ _ _, g2⟩
    rotate_left
    · intro k M3 hk ⟨f3, r3, g3⟩ next3 o1 o2 o9
      obtain ⟨m1, m2⟩ := hmem k hk
      have ek : nI k + 1 = nI (k + 1) := n_add k 1
      have r80 : M3.1 80 k = nI (fl.getD k 0) := by rw [(r3 80 (by omega)).1]; exact a2 k hk
      have e2 : (2 : Int32) + nI side = nI (2 + side) := n_add 2 side
      refine r_isHidden_171 ?_
      rw [n_le (by omega) (by omega), i_bit1 (by omega) (by omega), n_tn (by omega), r80, n_tn (by omega), e2, ek]
      refine ⟨fun z => by omega, fun _ => ⟨fun y => ?_, fun y => ⟨(n_in (by omega)).mpr (by omega), (n_in (by omega)).mpr (by omega), ?_⟩⟩⟩
      · refine next3 M3 ⟨f3, r3, ?_⟩
        have : hst (gS s) fl side w (k + 1) = hst (gS s) fl side w k := if_neg y
        rw [this]; exact g3
      · have y' := Decidable.not_not.mp y
        have fu : fr 56 56 M3 (mM_up M3 56 (fl.getD k 0) (nI (2 + side))) := fr_up M3 _ _ (by omega)
        refine next3 _ ⟨frG_then f3 fu (by omega), fr_trans r3 fu (by omega) (by omega), ?_⟩
        have : hst (gS s) fl side w (k + 1) = upN (hst (gS s) fl side w k) (fl.getD k 0) (2 + side) := if_pos y'
        rw [this]; exact MG_upS (2 + side) g3 (by omega)
    intro M3 ⟨f3, r3, g3⟩ o1 o2 o9
    refine r_isHidden_171 ⟨fun _ => ?_, fun z => absurd (Int32.le_refl _) z⟩
    have hM3 := MB_frG f3 hM
    refine s_shutIn (Or.inl hB) hM3 (MG_MS g3) (hst_ok hg.1 hk0 hs _) hs (fun M4 f4 _ _ _ => r_isHidden_215 ?_)
    have g4 := MG_fr f4 (by omega) g3
    -- and taken away
    have away : ∀ x : Bool, x = wayOk B (gS s) fl side told w → ∀ {o1 o2 : Option Value}, T_isHidden Q 235 [some (.ref 0), o1, o2, some (.int (nI side)), some (.int (nI many)), some (.int (nI told)), some (.int (nI fl.length)), some (.int (nI w)), some (.int (bI x)), some (.int (nI 0))] [] M4 := by
      intro x hx
      refine upTo fl.length (fun k (M5 : mw) => frG M M5 ∧ fr 56 62 M2 M5 ∧ MG (unst (hst (gS s) fl side w fl.length) fl k, gL s, gC s, gD s, gO s) M5)
        (fun k M5 => ∀ {o1 o2 : Option Value}, T_isHidden Q 235 [some (.ref 0), o1, o2, some (.int (nI side)), some (.int (nI many)), some (.int (nI told)), some (.int (nI fl.length)), some (.int (nI w)), some (.int (bI x)), some (.int (nI k))] [] M5) ?_ ?_ 0 M4 (Nat.zero_le _) ⟨frG_then f3 f4 (by omega), fr_trans r3 f4 (by omega) (by omega), g4⟩
      rotate_left
      · intro k M5 hk ⟨f5, r5, g5⟩ next5 o1 o2
        obtain ⟨m1, m2⟩ := hmem k hk
        have ek : nI k + 1 = nI (k + 1) := n_add k 1
        have r80 : M5.1 80 k = nI (fl.getD k 0) := by rw [(r5 80 (by omega)).1]; exact a2 k hk
        refine r_isHidden_235 ?_
        rw [n_le (by omega) (by omega), n_tn (by omega), r80, n_tn (by omega), ek]
        refine ⟨fun z => by omega, fun _ => ⟨(n_in (by omega)).mpr (by omega), (n_in (by omega)).mpr (by omega), ?_⟩⟩
        have fu : fr 56 56 M5 (mM_up M5 56 (fl.getD k 0) (nI 0)) := fr_up M5 _ _ (by omega)
        refine next5 _ ⟨frG_then f5 fu (by omega), fr_trans r5 fu (by omega) (by omega), MG_upS 0 g5 (by omega)⟩
      intro M5 ⟨f5, r5, g5⟩ o1 o2
      rw [unst_hst (fun k hk => (hmem k hk).2)] at g5
      have a5 : ∀ k, k < fl.length → M5.1 80 k = nI (fl.getD k 0) := fun k hk => by rw [(r5 80 (by omega)).1]; exact a2 k hk
      have b5 : M5.1 82 0 = M2.1 82 0 := by rw [(r5 82 (by omega)).1]
      have c5 : M5.1 81 = M2.1 81 := (r5 81 (by omega)).1
      refine r_isHidden_235 ?_
      rw [n_le (by omega) (by omega), ew]
      refine ⟨fun _ => ⟨fun y => ?_, fun y => ?_⟩, fun z => by omega⟩
      rotate_left
      · have y' := bI_nn0 y
        exact skip (by unfold hwF; rw [← hx, y', Bool.and_false]) M5 f5 g5 a5 b5 c5
      have y' := bI_n0 y
      have hF : hwF B (gS s) fl side many told w = true := by unfold hwF; rw [← hx, y', decide_eq_true z]; rfl
      have f8 : fr 82 82 M5 (mM_up M5 82 0 (M5.1 82 0 + 1)) := fr_up M5 _ _ (by omega)
      refine upTo fl.length (fun k (M6 : mw) => frG M M6 ∧ MG s M6 ∧ (∀ k, k < fl.length → M6.1 80 k = nI (fl.getD k 0)) ∧ M6.1 82 0 = nI (hwA B (gS s) fl side many told (w + 1)) ∧ (∀ j, j < fl.length → M6.1 81 (fl.getD j 0) = nI (hwK B (gS s) fl side many told j (if j < k then w + 1 else w))) ∧ ∀ p, p < bN B → p ∉ fl → M6.1 81 p = nI 0)
        (fun k M6 => ∀ {o1 o2 o8 : Option Value}, T_isHidden Q 282 [some (.ref 0), o1, o2, some (.int (nI side)), some (.int (nI many)), some (.int (nI told)), some (.int (nI fl.length)), some (.int (nI w)), o8, some (.int (nI k))] [] M6) ?_ ?_ 0 _ (Nat.zero_le _) ⟨frG_then f5 f8 (by omega), MG_fr f8 (by omega) g5, fun k hk => by rw [(f8 80 (by omega)).1]; exact a5 k hk, ?_, fun j hj => by rw [(f8 81 (by omega)).1, c5, c2 j hj]; rfl, fun p hp hn => by rw [(f8 81 (by omega)).1, c5]; exact d2 p hp hn⟩
      · intro M6 ⟨f6, g6, a6, b6, c6, d6⟩ o1 o2 o8
        refine r_isHidden_282 ⟨fun _ => ?_, fun z => absurd (Int32.le_refl _) z⟩
        rw [ew]
        refine next M6 ⟨f6, g6, a6, b6, fun j hj => ?_, d6⟩
        have := c6 j hj
        rw [if_pos hj] at this; exact this
      · intro k M6 hk ⟨f6, g6, a6, b6, c6, d6⟩ next6 o1 o2 o8
        obtain ⟨m1, m2⟩ := hmem k hk
        have ek : nI k + 1 = nI (k + 1) := n_add k 1
        have r81 : M6.1 81 (fl.getD k 0) = nI (hwK B (gS s) fl side many told k w) := by
          have := c6 k hk
          rw [if_neg (by omega)] at this; exact this
        have hK1 : hwK B (gS s) fl side many told k (w + 1) = hwK B (gS s) fl side many told k w + (if w.testBit k = true then 1 else 0) := by
          conv => lhs; unfold hwK smP
          rw [hF]; rfl
        refine r_isHidden_282 ?_
        rw [n_le (by omega) (by omega), i_bit1 (by omega) (by omega), n_tn (by omega), a6 k hk, n_tn (by omega), r81, ek]
        refine ⟨fun z => by omega, fun _ => ⟨fun y => ?_, fun y => ⟨(n_in (by omega)).mpr (by omega), (n_in (by omega)).mpr (by omega), (n_in (by omega)).mpr (by omega), ?_⟩⟩⟩
        · rw [if_neg y] at hK1
          refine next6 M6 ⟨f6, g6, a6, b6, fun j hj => ?_, d6⟩
          by_cases e : j = k
          · subst e; rw [if_pos (by omega), hK1]; exact r81
          · have := c6 j hj
            rw [this]; congr 2
            by_cases x : j < k
            · rw [if_pos x, if_pos (by omega)]
            · rw [if_neg x, if_neg (by omega)]
        · have y' := Decidable.not_not.mp y
          rw [if_pos y'] at hK1
          have fu : fr 81 81 M6 (mM_up M6 81 (fl.getD k 0) (nI (hwK B (gS s) fl side many told k w) + 1)) := fr_up M6 _ _ (by omega)
          refine next6 _ ⟨frG_then f6 fu (by omega), MG_fr fu (by omega) g6, fun j hj => by rw [(fu 80 (by omega)).1]; exact a6 j hj, by rw [(fu 82 (by omega)).1]; exact b6, fun j hj => ?_, fun p hp hn => ?_⟩
          · rw [m_up]
            by_cases e : j = k
            · subst e; rw [if_pos ⟨rfl, rfl⟩, if_pos (by omega), hK1]; exact n_add _ 1
            · rw [if_neg (fun x => e (hinj j k hj hk x.2)), c6 j hj]; congr 2
              by_cases x : j < k
              · rw [if_pos x, if_pos (by omega)]
              · rw [if_neg x, if_neg (by omega)]
          · rw [m_up, if_neg (fun x => hn (by rw [x.2]; exact getD_mem hk))]; exact d6 p hp hn
      · rw [m_up, if_pos ⟨rfl, rfl⟩, b5, b2]
        conv => rhs; unfold hwA smP
        rw [hF]; exact n_add _ 1
    rw [lg_cmp_eq, mb_t1 _ (by omega)]
    refine ⟨fun y => away false ?_, fun y => away true ?_⟩
    · unfold wayOk; simpa using y
    · unfold wayOk; exact (Decidable.not_not.mp y).symm
/-- ways: never so many -/
theorem ways_le : smP (fun w => if pcN w ≤ 3 then 1 else 0) 4096 ≤ 299 := by decide +kernel
theorem smP_mono {f : Nat → Nat} {a b : Nat} (h : a ≤ b) : smP f a ≤ smP f b := by
  induction b with
  | zero => rw [show a = 0 from by omega]; exact Nat.le_refl _
  | succ b ih =>
    by_cases e : a = b + 1
    · rw [e]; exact Nat.le_refl _
    · have := ih (by omega)
      show _ ≤ smP f b + f b
      omega
theorem smP_le2 {f g : Nat → Nat} (h : ∀ p, f p ≤ g p) (n : Nat) : smP f n ≤ smP g n := by
  induction n with
  | zero => exact Nat.le_refl _
  | succ n ih => unfold smP; have := h n; omega
theorem hwA_le {B : Bd} {st : Nat → Nat} {fl : List Nat} {side many told : Nat} (hm : many ≤ 3) (hl : fl.length ≤ 12) : hwA B st fl side many told (2 ^ fl.length) ≤ 299 := by
  refine Nat.le_trans ?_ ways_le
  refine Nat.le_trans (smP_mono (pw_lt hl)) (smP_le2 (fun w => ?_) 4096)
  unfold hwF
  by_cases c : pcN w = many
  · rw [if_pos (by omega : pcN w ≤ 3)]; split <;> omega
  · rw [decide_eq_false c]; simp
theorem hwK_le {B : Bd} {st : Nat → Nat} {fl : List Nat} {side many told k : Nat} (w : Nat) : hwK B st fl side many told k w ≤ hwA B st fl side many told w := by
  refine smP_le2 (fun w => ?_) w
  cases hwF B st fl side many told w <;> simp
  split <;> omega
/-- what is told of a place -/
noncomputable def hwP (B : Bd) (st : Nat → Nat) (fl : List Nat) (side many told p : Nat) : Nat := match fstP (fun i => decide (fl.getD i 0 = p)) fl.length with
  | none => 0
  | some i => hwK B st fl side many told i (2 ^ fl.length)
theorem hwP_le {B : Bd} {st : Nat → Nat} {fl : List Nat} {side many told p : Nat} : hwP B st fl side many told p ≤ hwA B st fl side many told (2 ^ fl.length) := by
  unfold hwP; split
  · exact Nat.zero_le _
  · exact hwK_le _
noncomputable def hidR (B : Bd) (s : GS) (set : Int64) (side many told : Nat) (k : Int32) : Int32 :=
  if k = -nI 1 then nI (hwA B (gS s) (hfL set (gS s) (bN B)) side many told (2 ^ (hfL set (gS s) (bN B)).length))
  else if hwA B (gS s) (hfL set (gS s) (bN B)) side many told (2 ^ (hfL set (gS s) (bN B)).length) = 0 then -nI 1
  else nI (1000 * hwP B (gS s) (hfL set (gS s) (bN B)) side many told k.toNatClampNeg / hwA B (gS s) (hfL set (gS s) (bN B)) side many told (2 ^ (hfL set (gS s) (bN B)).length))
theorem hid_at {B : Bd} {st : Nat → Nat} {fl : List Nat} {side many told : Nat} {f : Nat → Int32} {N : Nat} (h1 : ∀ k, k < fl.length → f (fl.getD k 0) = nI (hwK B st fl side many told k (2 ^ fl.length))) (h2 : ∀ p, p < N → p ∉ fl → f p = nI 0) {p : Nat} (hp : p < N) : f p = nI (hwP B st fl side many told p) := by
  unfold hwP
  rcases fstP_ex (f := fun i => decide (fl.getD i 0 = p)) (n := fl.length) with ⟨e, no⟩ | ⟨i, e, hi, yes, no⟩
  · rw [e]
    refine h2 p hp (fun hm => ?_)
    obtain ⟨i, a, b⟩ := mem_getD hm
    have := no i a
    rw [decide_eq_true b] at this; cases this
  · rw [e]
    rw [decide_eq_true_eq] at yes
    rw [← yes]; exact h1 i hi
theorem s_hidden {Q : Option Value → mw → Prop} {M : mw} {B : Bd} {s : GS} (hB : bOk B ∨ bN B = 0) (hK : bK B ≤ 5) (hM : MB B M) (hG : MG s M) (hg : gOk B s) (set : Int64) (a b c k : Int32)
    (q0 : ¬ ((k = -nI 1 ∨ vld k (bN B)) ∧ hidOk B s set a b c) → ∀ M', frG M M' → MG s M' → Q (some (.int (-nI 1))) M')
    (q1 : ∀ side many told, a = nI side → side < 2 → b = nI many → 1 ≤ many → many ≤ 3 → c = nI told → told < bN B → hidOk B s set a b c → (k = -nI 1 ∨ vld k (bN B)) → ∀ M', frG M M' → MG s M' → Q (some (.int (hidR B s set side many told k))) M') : V_hidden [.ref 0, .long set, .int a, .int b, .int c, .int k] M Q := by
  have hN : bN B ≤ 36 := bN36 hB
  have go : (k = -nI 1 ∨ vld k (bN B)) → ∀ {o1 o2 o3 o4 o5 : Option Value}, V_isHidden [.ref 0, .long set, .int a, .int b, .int c] M (fun v M1 => T_hidden Q 25 [some (.ref 0), o1, o2, o3, o4, o5, some (.int k)] (v.toList ++ []) M1) := by
    intro hk o1 o2 o3 o4 o5
    refine s_isHidden hB hK hM hG hg set a b c (fun h M1 f1 g1 => r_hidden_25 ⟨fun z => absurd rfl z, fun _ => ⟨trivial, q0 (fun z => h z.2) M1 f1 g1⟩⟩) (fun side many told ea hs eb m1 m3 ec ht hok M1 f1 g1 b1 c1 d1 => r_hidden_25 ⟨fun _ => ?_, fun z => absurd (by decide) z⟩)
    have q := q1 side many told ea hs eb m1 m3 ec ht hok hk M1 f1 g1
    unfold hidR at q
    have hl := hok.2.2.2.2.2.2
    have hat := fun p (hp : p < bN B) => hid_at (f := M1.1 81) (N := bN B) c1 d1 (p := p) hp
    generalize hfL set (gS s) (bN B) = fl at *
    have hA := hwA_le (B := B) (st := gS s) (side := side) (told := told) m3 hl
    have hP := fun p => hwP_le (B := B) (st := gS s) (fl := fl) (side := side) (many := many) (told := told) (p := p)
    rw [b1]
    have eA : (nI (hwA B (gS s) fl side many told (2 ^ fl.length)) = (0 : Int32)) ↔ hwA B (gS s) fl side many told (2 ^ fl.length) = 0 := n_eq (b := 0) (by omega) (by omega)
    rw [eA]
    refine ⟨fun x => ⟨fun y => ?_, fun y => ⟨trivial, ?_⟩⟩, fun x => ⟨trivial, ?_⟩⟩
    · rw [if_neg (show ¬ k = -nI 1 from x), if_neg y] at q
      obtain ⟨p, hp, ep⟩ := vld_ex (a := k) (n := bN B) (hk.elim (fun h => absurd h x) id)
      subst ep
      rw [n_tn (by omega)] at q ⊢
      have hp2 := hP p
      refine ⟨(n_in (by omega)).mpr (by omega), y, trivial, ?_⟩
      rw [hat p hp, show (1000 : Int32) * nI (hwP B (gS s) fl side many told p) = nI (1000 * hwP B (gS s) fl side many told p) from n_mul 1000 _, n_div (by omega) (by omega)]
      exact q
    · rw [if_neg (show ¬ k = -nI 1 from x), if_pos (Decidable.not_not.mp y)] at q; exact q
    · rw [if_pos (show k = -nI 1 from Decidable.not_not.mp x)] at q; exact q
  refine e_hidden (r_hidden_0 ⟨fun z => go (Or.inl z), fun z => ?_⟩)
  refine s_isPlace hN hM k (r_hidden_12 ⟨fun y => ⟨trivial, q0 (fun x => ?_) M (frG_refl M) hG⟩, fun y => ?_⟩)
  · have := bI_e0 y
    rw [decide_eq_false_iff_not] at this
    rcases x.1 with h | h
    · exact z h
    · exact this h
  · have y' := bI_n0 y
    rw [decide_eq_true_eq] at y'
    exact go (Or.inr y')
/-- the first place at which a function is greatest -/
def mxP (f : Nat → Nat) : Nat → Nat
  | 0 => 0
  | p + 1 => if f (mxP f p) < f p then p else mxP f p
theorem mxP_lt {f : Nat → Nat} {n : Nat} (h : 0 < n) : mxP f n < n := by
  induction n with
  | zero => omega
  | succ n ih =>
    unfold mxP; split
    · omega
    · rcases Nat.eq_zero_or_pos n with e | e
      · subst e; exact Nat.zero_lt_one
      · have := ih e; omega
theorem th_lt {a b W : Nat} (h0 : W ≠ 0) (hW : W < 1000) (ha : a ≤ W) (hb : b ≤ W) : 1000 * b / W < 1000 * a / W ↔ b < a := by
  constructor
  · intro h
    rcases Nat.lt_or_ge b a with c | c
    · exact c
    · have : 1000 * a / W ≤ 1000 * b / W := Nat.div_le_div_right (by omega)
      omega
  · intro h
    have h1 : 1000 * b + W ≤ 1000 * a := by omega
    have h2 : (1000 * b + W) / W = 1000 * b / W + 1 := Nat.add_div_right _ (by omega)
    have h3 : (1000 * b + W) / W ≤ 1000 * a / W := Nat.div_le_div_right h1
    omega
noncomputable def lookR (B : Bd) (s : GS) (set : Int64) (side many told : Nat) : Int32 :=
  if hwA B (gS s) (hfL set (gS s) (bN B)) side many told (2 ^ (hfL set (gS s) (bN B)).length) = 0 then -nI 1 else nI (mxP (hwP B (gS s) (hfL set (gS s) (bN B)) side many told) (bN B))
theorem s_look2 {Q : Option Value → mw → Prop} {M : mw} {B : Bd} {s : GS} (hB : bOk B ∨ bN B = 0) (hK : bK B ≤ 5) (hM : MB B M) (hG : MG s M) (hg : gOk B s) (set : Int64) (a b c : Int32)
    (q0 : ¬ hidOk B s set a b c → ∀ M', frG M M' → MG s M' → Q (some (.int (-nI 1))) M')
    (q1 : ∀ side many told, a = nI side → side < 2 → b = nI many → 1 ≤ many → many ≤ 3 → c = nI told → told < bN B → hidOk B s set a b c → ∀ M', frG M M' → MG s M' → Q (some (.int (lookR B s set side many told))) M') : V_look_2 [.ref 0, .long set, .int a, .int b, .int c] M Q := by
  have hN : bN B ≤ 36 := bN36 hB
  refine e_look_2 (r_look_2_0 (s_isHidden hB hK hM hG hg set a b c (fun h M1 f1 g1 => r_look_2_10 ⟨fun _ => ⟨trivial, q0 h M1 f1 g1⟩, fun z => absurd rfl z⟩) (fun side many told ea hs eb m1 m3 ec ht hok M1 f1 g1 b1 c1 d1 => r_look_2_10 ⟨fun z => absurd z (by decide), fun _ => ?_⟩)))
  have q := q1 side many told ea hs eb m1 m3 ec ht hok M1 f1 g1
  unfold lookR at q
  have hl := hok.2.2.2.2.2.2
  have hat := fun p (hp : p < bN B) => hid_at (f := M1.1 81) (N := bN B) c1 d1 (p := p) hp
  generalize hfL set (gS s) (bN B) = fl at *
  have hA := hwA_le (B := B) (st := gS s) (side := side) (told := told) m3 hl
  have hP := fun p => hwP_le (B := B) (st := gS s) (fl := fl) (side := side) (many := many) (told := told) (p := p)
  generalize hF : hwP B (gS s) fl side many told = F at *
  generalize hW : hwA B (gS s) fl side many told (2 ^ fl.length) = W at *
  rw [b1]
  have eA : (nI W = (0 : Int32)) ↔ W = 0 := n_eq (b := 0) (by omega) (by omega)
  rw [eA]
  refine ⟨fun y => ?_, fun y => ⟨trivial, ?_⟩⟩
  rotate_left
  · rw [if_pos (Decidable.not_not.mp y)] at q; exact q
  rw [if_neg y] at q
  have hpos : 0 < bN B := by omega
  have main := upTo (bN B) (fun p (_ : Unit) => 1 ≤ p) (fun p _ => ∀ {o1 o2 o3 o4 o5 : Option Value}, T_look_2 Q 28 [some (.ref 0), o1, o2, o3, o4, o5, some (.int (nI (mxP F p))), some (.int (nI p))] [] M1) ?_ ?_
  · have start := main 1 () (by omega) (Nat.le_refl 1) (o1 := none) (o2 := none) (o3 := none) (o4 := none) (o5 := none)
    have e0 : mxP F 1 = 0 := by unfold mxP; split <;> rfl
    rw [e0] at start
    exact start
  · intro _ _ o1 o2 o3 o4 o5
    refine r_look_2_28 (s_places (MB_frG f1 hM) (r_look_2_34 ⟨fun _ => ⟨trivial, q⟩, fun z => absurd (Int32.le_refl _) z⟩))
  · intro p _ hp h1 next o1 o2 o3 o4 o5
    have hm := mxP_lt (f := F) (n := p) h1
    have k1 := hP p
    have k2 := hP (mxP F p)
    refine r_look_2_28 (s_places (MB_frG f1 hM) (r_look_2_34 ⟨fun z => ?_, fun _ => ?_⟩))
    · rw [n_le (by omega) (by omega)] at z; omega
    rw [n_tn (by omega), n_tn (by omega), hat p hp, hat (mxP F p) (by omega), b1]
    have t1 : ∀ x : Nat, (1000 : Int32) * nI x = nI (1000 * x) := fun x => n_mul 1000 x
    rw [t1, t1, n_div (by omega) (by omega), n_div (by omega) (by omega)]
    have d1 : 1000 * F p / W ≤ 1000 * F p := Nat.div_le_self _ _
    have d2 : 1000 * F (mxP F p) / W ≤ 1000 * F (mxP F p) := Nat.div_le_self _ _
    rw [n_le (by omega) (by omega), show nI p + 1 = nI (p + 1) from n_add p 1]
    have key := th_lt (a := F p) (b := F (mxP F p)) y (by omega) k1 k2
    have nx := fun {o1 o2 o3 o4 o5} => next () (by omega) (o1 := o1) (o2 := o2) (o3 := o3) (o4 := o4) (o5 := o5)
    unfold mxP at nx
    refine ⟨(n_in (by omega)).mpr (by omega), by rw [eA]; exact y, (n_in (by omega)).mpr (by omega), by rw [eA]; exact y, fun z => ?_, fun z => ?_⟩
    · rw [if_neg (by omega)] at nx; exact nx
    · rw [if_pos (by omega)] at nx; exact nx
