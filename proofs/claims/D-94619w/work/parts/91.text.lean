/-! the text: bytes, blanks, words -/
def spn (f : Nat → Bool) : Nat → Nat → Nat
  | 0, k => k
  | n + 1, k => if f k = true then spn f n (k + 1) else k
/-- the first place behind all that is such -/
def spL (T : List Nat) (f : Nat → Bool) (k : Nat) : Nat := spn (fun j => decide (j < T.length) && f (T.getD j 0)) (T.length - k) k
theorem spL_eq (T : List Nat) (f : Nat → Bool) (k : Nat) : spL T f k = if k < T.length ∧ f (T.getD k 0) = true then spL T f (k + 1) else k := by
  unfold spL
  by_cases h : k < T.length
  · rw [show T.length - k = T.length - (k + 1) + 1 from by omega]
    have e : spn (fun j => decide (j < T.length) && f (T.getD j 0)) (T.length - (k + 1) + 1) k = if (decide (k < T.length) && f (T.getD k 0)) = true then spn (fun j => decide (j < T.length) && f (T.getD j 0)) (T.length - (k + 1)) (k + 1) else k := rfl
    rw [e, decide_eq_true h, Bool.true_and]
    by_cases y : f (T.getD k 0) = true
    · rw [if_pos y, if_pos ⟨h, y⟩]
    · rw [if_neg y, if_neg (fun z => y z.2)]
  · rw [if_neg (fun z => h z.1), show T.length - k = 0 from by omega]; rfl
theorem spL_go {T : List Nat} {f : Nat → Bool} {k : Nat} (h : k < T.length) (h2 : f (T.getD k 0) = true) : spL T f k = spL T f (k + 1) := by
  rw [spL_eq, if_pos ⟨h, h2⟩]
theorem spL_no {T : List Nat} {f : Nat → Bool} {k : Nat} (h : k < T.length → f (T.getD k 0) = false) : spL T f k = k := by
  rw [spL_eq, if_neg (fun z => by have := h z.1; rw [z.2] at this; cases this)]
/-- what is said of all such texts -/
theorem spL_ind {T : List Nat} {f : Nat → Bool} (P : Nat → Prop) (h0 : ∀ k, (k < T.length → f (T.getD k 0) = false) → P k) (h1 : ∀ k, k < T.length → f (T.getD k 0) = true → P (k + 1) → P k) (k : Nat) : P k := by
  have : ∀ n k, T.length - k = n → P k := by
    intro n
    induction n with
    | zero => intro k hk; exact h0 k (fun z => by omega)
    | succ n ih =>
      intro k hk
      by_cases c : k < T.length ∧ f (T.getD k 0) = true
      · exact h1 k c.1 c.2 (ih (k + 1) (by omega))
      · exact h0 k (fun z => by
          cases y : f (T.getD k 0)
          · rfl
          · exact absurd ⟨z, y⟩ c)
  exact this _ k rfl
theorem spL_is (T : List Nat) (f : Nat → Bool) (k : Nat) (hk : k ≤ T.length) : k ≤ spL T f k ∧ spL T f k ≤ T.length ∧ (∀ j, k ≤ j → j < spL T f k → f (T.getD j 0) = true) ∧ (spL T f k < T.length → f (T.getD (spL T f k) 0) = false) := by
  refine spL_ind (T := T) (f := f) (fun k => k ≤ T.length → k ≤ spL T f k ∧ spL T f k ≤ T.length ∧ (∀ j, k ≤ j → j < spL T f k → f (T.getD j 0) = true) ∧ (spL T f k < T.length → f (T.getD (spL T f k) 0) = false)) (fun k h hk => ?_) (fun k h1 h2 ih hk => ?_) k hk
  · rw [spL_no h]
    exact ⟨Nat.le_refl _, hk, fun j h1 h2 => by omega, h⟩
  · obtain ⟨a, b, c, d⟩ := ih (by omega)
    rw [spL_go h1 h2]
    refine ⟨by omega, b, fun j h3 h4 => ?_, d⟩
    by_cases e : j = k
    · rw [e]; exact h2
    · exact c j (by omega) h4
def isBl (n : Nat) : Bool := decide (n = 10) || decide (n = 32)
def isLe (n : Nat) : Bool := decide (97 ≤ n) && decide (n ≤ 122)
def isDi (n : Nat) : Bool := decide (48 ≤ n) && decide (n ≤ 57)
def sk (T : List Nat) (k : Nat) : Nat := spL T isBl k
def wl (T : List Nat) (k : Nat) : Nat := spL T isLe k
def dl (T : List Nat) (k : Nat) : Nat := spL T isDi k
/-- the byte at a place, as the reader sees it -/
def ch (T : List Nat) (k : Nat) : Int32 := if k < T.length then nI (T.getD k 0) else -nI 1
/-- does a letter or a digit stand ahead -/
def prt (T : List Nat) (k : Nat) : Bool := decide (0 < k) && (isLe (T.getD (k - 1) 0) || isDi (T.getD (k - 1) 0))
theorem bl_no {n : Nat} (h : isBl n = true) : isLe n = false ∧ isDi n = false := by
  unfold isBl at h
  rw [Bool.or_eq_true, decide_eq_true_eq, decide_eq_true_eq] at h
  rcases h with h | h <;> subst h <;> decide
/-- the reader's state, BorderStonesModel: no fault so far -/
def enOk (T : List Nat) (at' : Nat) (en : Int32) : Prop := en.toInt ≤ at' ∧ (en = nI at' ↔ prt T at' = true)
def MPt (T : List Nat) (M : mw) : Prop := M.1 3 0 = nI T.length ∧ (∀ k, k < T.length → M.1 0 k = nI (T.getD k 0)) ∧ tpOk T
def MP (T : List Nat) (a : Nat) (M : mw) : Prop := MPt T M ∧ M.1 5 0 = 0 ∧ M.1 2 0 = nI a ∧ a ≤ T.length ∧ enOk T a (M.1 4 0)
/-- what reading may alter -/
def bd6 (M M' : mw) : Prop := M'.1 5 0 = 0 → M.1 5 0 = 0 ∧ M'.1 6 = M.1 6
theorem bd6_trans {M M1 M2 : mw} (h : bd6 M M1) (g : bd6 M1 M2) : bd6 M M2 := fun z => ⟨(h (g z).1).1, (g z).2.trans (h (g z).1).2⟩
def frT (M M' : mw) : Prop := M'.2 = M.2 ∧ (∀ j, j ≠ 2 → j ≠ 4 → j ≠ 5 → j ≠ 6 → j ≠ 9 → j ≠ 32 → M'.1 j = M.1 j) ∧ bd6 M M'
theorem frT_refl (M : mw) : frT M M := ⟨rfl, fun _ _ _ _ _ _ _ => rfl, fun h => ⟨h, rfl⟩⟩
theorem frT_trans {M M1 M2 : mw} (h : frT M M1) (g : frT M1 M2) : frT M M2 := ⟨g.1.trans h.1, fun j a b c d e f => (g.2.1 j a b c d e f).trans (h.2.1 j a b c d e f), bd6_trans h.2.2 g.2.2⟩
theorem frT_up {M M1 : mw} {k i : Nat} {v : Int32} (h : frT M M1) (hk : k = 2 ∨ k = 4 ∨ k = 9 ∨ k = 32) : frT M (mM_up M1 k i v) := frT_trans h ⟨rfl, fun j a b c d e f => by funext u; rw [m_up, if_neg (by omega)], fun z => by
  rw [m_up, if_neg (by omega)] at z
  exact ⟨z, by funext u; rw [m_up, if_neg (by omega)]⟩⟩
theorem frT_bad {M : mw} {x y : Int32} (hx : x ≠ 0) : frT M (mM_up (mM_up M 5 0 x) 6 0 y) := ⟨rfl, fun j a b c d e f => by funext u; rw [m_up, if_neg (by omega), m_up, if_neg (by omega)], fun z => by
  rw [m_up, if_neg (by omega), m_up, if_pos ⟨rfl, rfl⟩] at z
  exact absurd z hx⟩
theorem MPt_f {T : List Nat} {M M' : mw} (h : frT M M') (g : MPt T M) : MPt T M' := by
  obtain ⟨a, b, c⟩ := g
  exact ⟨by rw [h.2.1 3 (by omega) (by omega) (by omega) (by omega) (by omega) (by omega)]; exact a, fun k hk => by rw [h.2.1 0 (by omega) (by omega) (by omega) (by omega) (by omega) (by omega)]; exact b k hk, c⟩
theorem s_isLetter {Q : Option Value → mw → Prop} {M : mw} {n : Nat} (hn : n < 2147483648) (q : Q (some (.int (bI (isLe n)))) M) : V_isLetter [.int (nI n)] M Q := by
  refine e_isLetter (r_isLetter_0 ?_)
  rw [show (nI n < (97 : Int32)) ↔ n < 97 from n_lt (b := 97) hn (by omega), show ((122 : Int32) < nI n) ↔ 122 < n from n_lt (a := 122) (by omega) hn]
  unfold isLe at q
  refine ⟨fun c => ⟨nr_0, ?_⟩, fun c => ⟨fun c2 => ⟨nr_0, ?_⟩, fun c2 => ⟨nr_1, ?_⟩⟩⟩
  · rw [decide_eq_false (by omega)] at q; exact q
  · rw [decide_eq_false (show ¬ n ≤ 122 by omega), Bool.and_false] at q; exact q
  · rw [decide_eq_true (by omega), decide_eq_true (by omega)] at q; exact q
theorem s_isLetterN {Q : Option Value → mw → Prop} {M : mw} (q : Q (some (.int (nI 0))) M) : V_isLetter [.int (-nI 1)] M Q :=
  e_isLetter (r_isLetter_0 ⟨fun _ => ⟨nr_0, q⟩, fun z => absurd (by decide) z⟩)
theorem s_isDigit {Q : Option Value → mw → Prop} {M : mw} {n : Nat} (hn : n < 2147483648) (q : Q (some (.int (bI (isDi n)))) M) : V_isDigit [.int (nI n)] M Q := by
  refine e_isDigit (r_isDigit_0 ?_)
  rw [show (nI n < (48 : Int32)) ↔ n < 48 from n_lt (b := 48) hn (by omega), show ((57 : Int32) < nI n) ↔ 57 < n from n_lt (a := 57) (by omega) hn]
  unfold isDi at q
  refine ⟨fun c => ⟨nr_0, ?_⟩, fun c => ⟨fun c2 => ⟨nr_0, ?_⟩, fun c2 => ⟨nr_1, ?_⟩⟩⟩
  · rw [decide_eq_false (by omega)] at q; exact q
  · rw [decide_eq_false (show ¬ n ≤ 57 by omega), Bool.and_false] at q; exact q
  · rw [decide_eq_true (by omega), decide_eq_true (by omega)] at q; exact q
theorem s_isDigitN {Q : Option Value → mw → Prop} {M : mw} (q : Q (some (.int (nI 0))) M) : V_isDigit [.int (-nI 1)] M Q :=
  e_isDigit (r_isDigit_0 ⟨fun _ => ⟨nr_0, q⟩, fun z => absurd (by decide) z⟩)
theorem en_next {T : List Nat} {a : Nat} {en : Int32} (h : enOk T a en) (ha : a < 1700) (hb : isLe (T.getD a 0) = false ∧ isDi (T.getD a 0) = false) : enOk T (a + 1) en := by
  refine ⟨by have := h.1; omega, ?_, ?_⟩
  · intro z
    have := h.1
    rw [z, n_T (by omega)] at this
    omega
  · intro z
    unfold prt at z
    rw [show a + 1 - 1 = a from rfl, hb.1, hb.2] at z
    simp at z
theorem s_look {Q : Option Value → mw → Prop} {T : List Nat} {M0 : mw} : ∀ (a : Nat) (M : mw), MP T a M → frT M0 M → (∀ M', frT M0 M' → MP T (sk T a) M' → Q (some (.int (ch T (sk T a)))) M') → V_look [.ref 0] M Q := by
  intro a
  refine spL_ind (T := T) (f := isBl) (fun a => ∀ (M : mw), MP T a M → frT M0 M → (∀ M', frT M0 M' → MP T (sk T a) M' → Q (some (.int (ch T (sk T a)))) M') → V_look [.ref 0] M Q) (fun k h M hM f q => ?_) (fun k h1 h2 ih M hM f q => ?_) a
  · have es : sk T k = k := spL_no h
    rw [es] at q
    have q := q M f hM
    obtain ⟨⟨m1, m2, m3⟩, m4, m5, m6, m7⟩ := hM
    have l16 := m3.1
    refine e_look (r_look_0 ?_)
    rw [m1, m5, n_le (by omega) (by omega), n_tn (by omega)]
    unfold ch at q
    refine ⟨fun c => ⟨fun _ => ⟨trivial, ?_⟩, fun z => absurd c z⟩, fun c => ⟨(n_in (by omega)).mpr (by omega), ?_⟩⟩
    · rw [if_neg (by omega)] at q; exact q
    · have hb := h (by omega)
      have b256 := m3.2 _ (getD_mem (show k < T.length by omega))
      unfold isBl at hb
      rw [Bool.or_eq_false_iff, decide_eq_false_iff_not, decide_eq_false_iff_not] at hb
      rw [m2 k (by omega), show (nI (T.getD k 0) = (10 : Int32)) ↔ T.getD k 0 = 10 from n_eq (b := 10) (by omega) (by omega), show (nI (T.getD k 0) = (32 : Int32)) ↔ T.getD k 0 = 32 from n_eq (b := 32) (by omega) (by omega)]
      refine ⟨fun z => absurd z hb.1, fun _ => ⟨(n_in (by omega)).mpr (by omega), fun _ => ⟨fun z => absurd z c, fun _ => ⟨(n_in (by omega)).mpr (by omega), trivial, ?_⟩⟩, fun z => absurd hb.2 z⟩⟩
      rw [if_pos (by omega)] at q; exact q
  · have es : sk T k = sk T (k + 1) := spL_go h1 h2
    rw [es] at q
    obtain ⟨⟨m1, m2, m3⟩, m4, m5, m6, m7⟩ := id hM
    have l16 := m3.1
    have ek : nI k + 1 = nI (k + 1) := n_add k 1
    have fu : frT M (mM_up M 2 0 (nI (k + 1))) := frT_up (frT_refl M) (by omega)
    have nx := ih (mM_up M 2 0 (nI (k + 1))) ⟨MPt_f fu hM.1, by rw [m_up, if_neg (by omega)]; exact m4, by rw [m_up, if_pos ⟨rfl, rfl⟩], by omega, by rw [m_up, if_neg (by omega)]; exact en_next m7 (by omega) (bl_no h2)⟩ (frT_trans f fu) q
    have nx : T_look Q 0 [some (.ref 0)] [] (mM_up M 2 0 (nI (k + 1))) := nx
    have b256 := m3.2 _ (getD_mem h1)
    refine e_look (r_look_0 ?_)
    rw [m1, m5, n_le (by omega) (by omega), n_tn (by omega), m2 k h1, ek, show (nI (T.getD k 0) = (10 : Int32)) ↔ T.getD k 0 = 10 from n_eq (b := 10) (by omega) (by omega), show (nI (T.getD k 0) = (32 : Int32)) ↔ T.getD k 0 = 32 from n_eq (b := 32) (by omega) (by omega)]
    unfold isBl at h2
    rw [Bool.or_eq_true, decide_eq_true_eq, decide_eq_true_eq] at h2
    refine ⟨fun c => by omega, fun c => ⟨(n_in (by omega)).mpr (by omega), fun _ => nx, fun z => ⟨(n_in (by omega)).mpr (by omega), fun z2 => by omega, fun _ => nx⟩⟩⟩
/-- the words, by their fields -/
def wT (k : Nat) : List Nat := ([[102, 105, 101, 108, 100], [107, 105, 110, 100], [114, 101, 97, 99, 104], [104, 105, 103, 104], [115, 117, 110, 107], [99, 104, 105, 108, 100], [115, 116, 111, 110, 101], [114, 101, 100], [98, 108, 117, 101], [97, 116], [108, 97, 110, 100], [119, 111, 114, 116, 104], [119, 104, 101, 110], [111, 114], [97, 110, 100], [110, 111, 116], [97, 108, 108], [97, 99, 114, 111, 115, 115], [100, 111, 119, 110], [101, 100, 103, 101], [109, 105, 110], [109, 97, 120]] : List (List Nat)).getD (k - 10) []
def MWd (M : mw) : Prop := ∀ k, 10 ≤ k → k < 32 → ∀ i, i < (wT k).length → M.1 k i = nI ((wT k).getD i 0)
theorem wT_ok : ∀ k, k < 32 → 10 ≤ k → mM_kd k = 4 ∧ mM_ln k = (wT k).length ∧ (wT k).length ≤ 6 ∧ 0 < (wT k).length := by decide
theorem wT_lt : ∀ k, k < 32 → ∀ i, i < 6 → (wT k).getD i 0 < 256 := by decide
theorem MWd_f {M M' : mw} (h : frT M M') (g : MWd M) : MWd M' := fun k h1 h2 i hi => by
  rw [h.2.1 k (by omega) (by omega) (by omega) (by omega) (by omega) (by omega)]; exact g k h1 h2 i hi
/-- does such a word stand at a place -/
def wEq (T : List Nat) (a : Nat) (w : List Nat) : Bool := decide (wl T a - a = w.length) && (List.range w.length).all (fun i => decide (T.getD (a + i) 0 = w.getD i 0))
def isWd (T : List Nat) (a : Nat) : Bool := decide (a < T.length) && isLe (T.getD a 0) && !prt T a
def hereB (T : List Nat) (a : Nat) (w : List Nat) : Bool := isWd T (sk T a) && wEq T (sk T a) w
theorem sk_is (T : List Nat) {a : Nat} (h : a ≤ T.length) : a ≤ sk T a ∧ sk T a ≤ T.length := by
  have := spL_is T isBl a h
  exact ⟨this.1, this.2.1⟩
theorem s_isHere {Q : Option Value → mw → Prop} {T : List Nat} {a k : Nat} {M : mw} (hM : MP T a M) (hW : MWd M) (h1 : 10 ≤ k) (h2 : k < 32) (q : ∀ M', frT M M' → MP T (sk T a) M' → Q (some (.int (bI (hereB T a (wT k))))) M') : V_isHere [.ref 0, .ref (k + 1)] M Q := by
  obtain ⟨w1, w2, w3, w4⟩ := wT_ok k h2 h1
  have w5 := wT_lt k h2
  refine e_isHere (r_isHere_0 ⟨fun c => absurd hM.2.1 c, fun _ => s_look a M hM (frT_refl M) (fun M1 f1 m1 => r_isHere_11 ?_)⟩)
  have q := q M1 f1 m1
  have hW1 := MWd_f f1 hW
  unfold hereB at q
  have hs := sk_is T hM.2.2.2.1
  generalize sk T a = b at *
  clear hM f1 hW
  obtain ⟨⟨a1, a2, a3⟩, a4, a5, a6, a7⟩ := m1
  have l16 := a3.1
  unfold ch
  by_cases c : b < T.length
  rotate_left
  · rw [if_neg c]
    refine s_isLetterN (r_isHere_14 ⟨fun _ => ⟨nr_0, ?_⟩, fun z => absurd rfl z⟩)
    unfold isWd at q
    rw [decide_eq_false c] at q; exact q
  rw [if_pos c]
  have b256 := a3.2 _ (getD_mem c)
  refine s_isLetter (by omega) (r_isHere_14 ⟨fun z => ⟨nr_0, ?_⟩, fun z => ?_⟩)
  · unfold isWd at q
    rw [bI_e0 z, Bool.and_false] at q; exact q
  have z := bI_n0 z
  rw [a5]
  have ee : (nI b = M1.1 4 0) ↔ prt T b = true := by
    rw [← a7.2]; exact ⟨fun h => h.symm, fun h => h.symm⟩
  rw [ee]
  refine ⟨fun y => ?_, fun y => ⟨nr_0, ?_⟩⟩
  rotate_left
  · have y := Decidable.not_not.mp y
    unfold isWd at q
    rw [y, Bool.not_true, Bool.and_false] at q; exact q
  have y : prt T b = false := by simpa using y
  have hwd : isWd T b = true := by unfold isWd; rw [decide_eq_true c, z, y]; rfl
  rw [hwd, Bool.true_and] at q
  -- the letters compared
  have sp := spL_is T isLe b (by omega)
  have fin : ∀ {o2 : Option Value}, (wl T b - b = (wT k).length → T_isHere Q 76 [some (.ref 0), some (.ref (k + 1)), o2, some (.int (nI 0))] [] M1) := by
    intro o2 hl
    have hl' : spL T isLe b - b = (wT k).length := hl
    refine upTo (wT k).length (fun i (_ : Unit) => ∀ j, j < i → T.getD (b + j) 0 = (wT k).getD j 0) (fun i _ => ∀ {o2 : Option Value}, T_isHere Q 76 [some (.ref 0), some (.ref (k + 1)), o2, some (.int (nI i))] [] M1) ?_ ?_ 0 () (by omega) (fun j hj => by omega)
    · intro _ h o2
      refine r_isHere_76 ⟨w1, fun _ => ⟨nr_1, ?_⟩, fun x => absurd (by rw [w2]; exact Int32.le_refl _) x⟩
      have : wEq T b (wT k) = true := by
        unfold wEq
        rw [decide_eq_true hl, Bool.true_and, List.all_eq_true]
        intro j hj
        exact decide_eq_true (h j (List.mem_range.mp hj))
      rw [this] at q; exact q
    · intro i _ hi h next o2
      have bb := a3.2 _ (getD_mem (show b + i < T.length by omega))
      have wb := w5 i (by omega)
      refine r_isHere_76 ?_
      rw [w2, a5, n_add, n_tn (by omega), n_tn (by omega), a2 (b + i) (by omega), hW1 k h1 h2 i hi, n_eq (by omega) (by omega), show nI i + 1 = nI (i + 1) from n_add i 1]
      refine ⟨w1, fun x => by have x : nI (wT k).length ≤ nI i := x; rw [n_le (by omega) (by omega)] at x; omega, fun _ => ⟨(n_in (by omega)).mpr (by omega), w1, (n_in (by omega)).mpr hi, fun x => next () (fun j hj => ?_), fun x => ⟨nr_0, ?_⟩⟩⟩
      · by_cases e : j = i
        · rw [e]; exact x
        · exact h j (by omega)
      · have : wEq T b (wT k) = false := by
          unfold wEq
          rw [decide_eq_true hl, Bool.true_and, List.all_eq_false]
          exact ⟨i, List.mem_range.mpr hi, by rw [decide_eq_false x]; decide⟩
        rw [this] at q; exact q
  have fino : wl T b - b ≠ (wT k).length → Q (some (.int (nI 0))) M1 := fun h => by
    have : wEq T b (wT k) = false := by unfold wEq; rw [decide_eq_false h]; rfl
    rw [this] at q; exact q
  -- the word's end
  have loop : ∀ j, b ≤ j → j ≤ T.length → wl T j = wl T b → ∀ {o3 : Option Value}, T_isHere Q 35 [some (.ref 0), some (.ref (k + 1)), some (.int (nI j)), o3] [] M1 := by
    intro j
    refine spL_ind (T := T) (f := isLe) (fun j => b ≤ j → j ≤ T.length → wl T j = wl T b → ∀ {o3 : Option Value}, T_isHere Q 35 [some (.ref 0), some (.ref (k + 1)), some (.int (nI j)), o3] [] M1) (fun j h g1 g2 g3 o3 => ?_) (fun j g1 g2 ih g3 g4 g5 o3 => ?_) j
    · have e : wl T b = j := by rw [← g3]; exact spL_no h
      have last : mM_kd k = 4 ∧ (((nI j - nI b : Int32) = (Int32.ofNat (mM_ln k)) → T_isHere Q 76 [some (.ref 0), some (.ref (k + 1)), some (.int (nI j)), some (.int 0)] [] M1) ∧ (¬ ((nI j - nI b : Int32) = (Int32.ofNat (mM_ln k))) → (narrow .boolean (.int 0) = .int 0 ∧ Q (some (.int 0)) M1))) := by
        have e2 : (nI j - nI b = Int32.ofNat (mM_ln k)) ↔ wl T b - b = (wT k).length := by
          rw [n_sub g1, w2, e]
          exact n_eq (by omega) (by omega)
        rw [e2]
        exact ⟨w1, fin, fun x => ⟨nr_0, fino x⟩⟩
      refine r_isHere_35 ?_
      rw [a1, a5, n_le (by omega) (by omega), n_tn (by omega)]
      refine ⟨fun _ => last, fun x => ⟨(n_in (by omega)).mpr (by omega), ?_⟩⟩
      have bb := a3.2 _ (getD_mem (show j < T.length by omega))
      rw [a2 j (by omega)]
      refine s_isLetter (by omega) (r_isHere_52 ?_)
      rw [h (by omega), a5]
      exact ⟨fun _ => last, fun x => absurd rfl x⟩
    · have bb := a3.2 _ (getD_mem g1)
      refine r_isHere_35 ?_
      rw [a1, n_le (by omega) (by omega), n_tn (by omega), a2 j g1]
      refine ⟨fun x => by omega, fun _ => ⟨(n_in (by omega)).mpr (by omega), s_isLetter (by omega) (r_isHere_52 ?_)⟩⟩
      rw [g2, show nI j + 1 = nI (j + 1) from n_add j 1]
      refine ⟨fun x => absurd x (by decide), fun _ => ih (by omega) (by omega) ?_⟩
      rw [← g5]; exact (spL_go g1 g2).symm
  exact loop b (Nat.le_refl _) (by omega) rfl
