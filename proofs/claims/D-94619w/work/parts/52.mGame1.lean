/-! BorderStonesModel: small methods of the game -/
def bI (b : Bool) : Int32 := if b then 1 else 0
theorem bI_t : bI true = 1 := rfl
theorem bI_f : bI false = 0 := rfl
theorem bI_0 (b : Bool) : bI b = nI 0 ↔ b = false := by cases b <;> simp [bI, nI]
theorem bI_1 (b : Bool) : bI b = nI 1 ↔ b = true := by cases b <;> simp [bI, nI]
theorem bI_z (b : Bool) : bI b = 0 ↔ b = false := by cases b <;> simp [bI]
theorem nr_b (b : Bool) : narrow .boolean (.int (bI b)) = .int (bI b) := by cases b <;> rfl
theorem nr_0 : narrow .boolean (.int 0) = .int 0 := rfl
theorem nr_1 : narrow .boolean (.int 1) = .int 1 := rfl
theorem l32_le (a b : Int32) : a.toInt64 ≤ b.toInt64 ↔ a ≤ b := by rw [Int64.le_iff_toInt_le, Int32.le_iff_toInt_le, Int32.toInt_toInt64, Int32.toInt_toInt64]
theorem l32_lt (a b : Int32) : a.toInt64 < b.toInt64 ↔ a < b := by rw [Int64.lt_iff_toInt_lt, Int32.lt_iff_toInt_lt, Int32.toInt_toInt64, Int32.toInt_toInt64]
theorem s_isIn {Q : Option Value → mw → Prop} {M : mw} (a b c : Int64) (h : Q (some (.int (bI (decide (b ≤ a) && decide (a ≤ c))))) M) : V_isIn [.long a, .long b, .long c] M Q := by
  refine e_isIn (r_isIn_0 ⟨fun c1 => ⟨nr_0, ?_⟩, fun c1 => ⟨fun c2 => ⟨nr_0, ?_⟩, fun c2 => ⟨nr_1, ?_⟩⟩⟩)
  · rw [lg_cmp_lt] at c1
    rw [decide_eq_false (Int64.not_le.mpr c1)] at h; exact h
  · rw [lg_cmp_lt, Int64.not_lt] at c1
    rw [lg_cmp_gt] at c2
    rw [decide_eq_false (Int64.not_le.mpr c2), Bool.and_false] at h; exact h
  · rw [lg_cmp_lt, Int64.not_lt] at c1
    rw [lg_cmp_gt, Int64.not_lt] at c2
    rw [decide_eq_true c1, decide_eq_true c2] at h; exact h
/-- isIn of ints -/
theorem s_isIn32 {Q : Option Value → mw → Prop} {M : mw} (a b c : Int32) (h : Q (some (.int (bI (decide (b.toInt ≤ a.toInt ∧ a.toInt ≤ c.toInt))))) M) : V_isIn [.long a.toInt64, .long b.toInt64, .long c.toInt64] M Q := by
  refine s_isIn _ _ _ ?_
  rw [← Bool.decide_and]
  simp only [l32_le, Int32.le_iff_toInt_le]
  exact h
theorem s_least {Q : Option Value → mw → Prop} {M : mw} (a b : Nat) (ha : a < 2147483648) (hb : b < 2147483648) (h : Q (some (.int (nI (min a b)))) M) : V_least [.int (nI a), .int (nI b)] M Q := by
  refine e_least (r_least_0 ⟨fun c => ⟨trivial, ?_⟩, fun c => ⟨trivial, ?_⟩⟩)
  · rw [n_le hb ha] at c
    rw [Nat.min_eq_right c] at h; exact h
  · rw [n_le hb ha] at c
    rw [Nat.min_eq_left (by omega)] at h; exact h
theorem s_places {Q : Option Value → mw → Prop} {M : mw} {B : Bd} (hM : MB B M) (k : Q (some (.int (nI (bN B)))) M) : V_places [.ref 0] M Q := by
  refine e_places (r_places_0 ⟨trivial, ?_⟩)
  rw [hM.1, hM.2.1, n_mul]; exact k
theorem s_isPlace {Q : Option Value → mw → Prop} {M : mw} {B : Bd} (hB : bN B ≤ 36) (hM : MB B M) (a : Int32) (k : Q (some (.int (bI (decide (0 ≤ a.toInt ∧ a.toInt < bN B))))) M) : V_isPlace [.ref 0, .int a] M Q := by
  refine e_isPlace (r_isPlace_0 (s_places hM (r_isPlace_7 ?_)))
  refine s_isIn32 (b := 0) _ _ (r_isPlace_13 ⟨nr_b _, ?_⟩)
  have : (nI (bN B) - 1).toInt = (bN B : Int) - 1 := by
    rw [Int32.toInt_sub, n_T (by omega)]; exact Int.bmod_eq_of_le (by simp; omega) (by simp; omega)
  rw [this]
  have e : ((0 : Int32).toInt ≤ a.toInt ∧ a.toInt ≤ (bN B : Int) - 1) = (0 ≤ a.toInt ∧ a.toInt < bN B) := by
    apply propext; simp; omega
  simp only [e]; exact k
theorem s_kinds {Q : Option Value → mw → Prop} {M : mw} {B : Bd} (hM : MB B M) (k : Q (some (.int (nI (bK B)))) M) : V_kinds [.ref 0] M Q := by
  refine e_kinds (r_kinds_0 ⟨(n_in (a := 3) (by omega)).mpr (by omega), trivial, ?_⟩)
  have : Int32.toNatClampNeg 3 = 3 := by decide
  rw [this, hM.2.2.1]; exact k
theorem s_isKind {Q : Option Value → mw → Prop} {M : mw} {B : Bd} (hB : bK B ≤ 5) (hM : MB B M) (a : Int32) (k : Q (some (.int (bI (decide (0 ≤ a.toInt ∧ a.toInt < bK B))))) M) : V_isKind [.ref 0, .int a] M Q := by
  refine e_isKind (r_isKind_0 (s_kinds hM (r_isKind_7 ?_)))
  refine s_isIn32 (b := 0) _ _ (r_isKind_13 ⟨nr_b _, ?_⟩)
  have : (nI (bK B) - 1).toInt = (bK B : Int) - 1 := by
    rw [Int32.toInt_sub, n_T (by omega)]; exact Int.bmod_eq_of_le (by simp; omega) (by simp; omega)
  rw [this]
  have e : ((0 : Int32).toInt ≤ a.toInt ∧ a.toInt ≤ (bK B : Int) - 1) = (0 ≤ a.toInt ∧ a.toInt < bK B) := by
    apply propext; simp; omega
  simp only [e]; exact k
theorem s_isFree {Q : Option Value → mw → Prop} {M : mw} {st : Nat → Nat} (hS : MS st M) (h12 : ∀ p, st p < 12) {p : Nat} (hp : p < 36) (k : Q (some (.int (bI (decide (st p = 0))))) M) : V_isFree [.ref 0, .int (nI p)] M Q := by
  have h1 := h12 p
  have e : M.1 56 (nI p).toNatClampNeg = nI (st p) := by rw [n_tn (by omega), hS p hp]
  refine e_isFree (r_isFree_0 ⟨(n_in (by omega)).mpr (by omega), fun c => ⟨nr_0, ?_⟩, fun c => ⟨nr_1, ?_⟩⟩)
  · rw [e] at c; simp (disch := omega) only [n_lit, n_eq] at c
    rw [decide_eq_false c] at k; exact k
  · rw [e] at c; simp (disch := omega) only [n_lit, n_eq, Decidable.not_not] at c
    rw [decide_eq_true c] at k; exact k
theorem s_isOf {Q : Option Value → mw → Prop} {M : mw} {st : Nat → Nat} (hS : MS st M) (h12 : ∀ p, st p < 12) {p side : Nat} (hp : p < 36) (hs : side < 2) (k : Q (some (.int (bI (isOfG st p side)))) M) : V_isOf [.ref 0, .int (nI p), .int (nI side)] M Q := by
  have h1 := h12 p
  have e : M.1 56 (nI p).toNatClampNeg = nI (st p) := by rw [n_tn (by omega), hS p hp]
  unfold isOfG at k
  refine e_isOf (r_isOf_0 ⟨(n_in (by omega)).mpr (by omega), fun c => ⟨nr_0, ?_⟩, fun c => ⟨(n_in (by omega)).mpr (by omega), by decide, fun c2 => ⟨nr_0, ?_⟩, fun c2 => ⟨nr_1, ?_⟩⟩⟩)
  · rw [e] at c; simp (disch := omega) only [n_lit, n_le] at c
    rw [decide_eq_false (by omega : ¬ 0 < st p)] at k; exact k
  · rw [e] at c2; simp (disch := omega) only [n_lit, n_rem, n_eq] at c2
    rw [decide_eq_false c2, Bool.and_false] at k; exact k
  · rw [e] at c c2; simp (disch := omega) only [n_lit, n_rem, n_eq, n_le, Decidable.not_not] at c c2
    rw [decide_eq_true c2, decide_eq_true (by omega : 0 < st p)] at k; exact k
theorem s_kindAt {Q : Option Value → mw → Prop} {M : mw} {st : Nat → Nat} (hS : MS st M) (h12 : ∀ p, st p < 12) {p : Nat} (hp : p < 36) (h2 : 2 ≤ st p) (k : Q (some (.int (nI (kdG st p)))) M) : V_kindAt [.ref 0, .int (nI p)] M Q := by
  have h1 := h12 p
  have e : M.1 56 (nI p).toNatClampNeg = nI (st p) := by rw [n_tn (by omega), hS p hp]
  refine e_kindAt (r_kindAt_0 ⟨(n_in (by omega)).mpr (by omega), by decide, trivial, ?_⟩)
  rw [e]; simp (disch := omega) only [n_lit, n_div, n_sub]
  exact k
theorem tb0 {n : Nat} (h : n < 8) : (nI n &&& nI 1 = nI 0) ↔ n.testBit 0 = false := by
  have : ∀ n, n < 8 → ((nI n &&& nI 1 = nI 0) ↔ n.testBit 0 = false) := by decide
  exact this n h
theorem tb1 {n : Nat} (h : n < 8) : (nI n &&& nI 2 = nI 0) ↔ n.testBit 1 = false := by
  have : ∀ n, n < 8 → ((nI n &&& nI 2 = nI 0) ↔ n.testBit 1 = false) := by decide
  exact this n h
theorem tb2 {n : Nat} (h : n < 8) : (nI n &&& nI 4 = nI 0) ↔ n.testBit 2 = false := by
  have : ∀ n, n < 8 → ((nI n &&& nI 4 = nI 0) ↔ n.testBit 2 = false) := by decide
  exact this n h
theorem s_hasMark {Q : Option Value → mw → Prop} {M : mw} {B : Bd} {st : Nat → Nat} (hB : bOk B) (hM : MB B M) (hS : MS st M) (hs : sOk B st) {p i : Nat} (hp : p < 36) (h0 : st p ≠ 0) (m : Nat) (hm : m = 1 ∧ i = 0 ∨ m = 2 ∧ i = 1 ∨ m = 4 ∧ i = 2) (k : Q (some (.int (bI (mkG B st p i)))) M) : V_hasMark [.ref 0, .int (nI p), .int (nI m)] M Q := by
  have h1 := sOk_lt hB hs p
  have h2 := sOk_kd hs h0
  have hK := hB.2.2.2.2.2.1
  have hm8 := (hB.2.2.2.2.2.2.1 _ h2).2
  have h3 : 2 ≤ st p := by have := hs p; omega
  refine e_hasMark (r_hasMark_0 (s_kindAt hS (sOk_lt hB hs) hp h3 (r_hasMark_10 ?_)))
  have e : (5 : Int32) + nI (kdG st p) = nI (5 + kdG st p) := n_add 5 _
  rw [e, n_tn (by omega), hM.2.2.2.2.1 _ h2]
  have key : (nI (bM B (kdG st p)) &&& nI m = nI 0) ↔ mkG B st p i = false := by
    unfold mkG
    rcases hm with ⟨e1, e2⟩ | ⟨e1, e2⟩ | ⟨e1, e2⟩ <;> subst e1 <;> subst e2
    · exact tb0 hm8
    · exact tb1 hm8
    · exact tb2 hm8
  refine ⟨(n_in (by omega)).mpr (by omega), fun c => ⟨nr_0, ?_⟩, fun c => ⟨nr_1, ?_⟩⟩
  · rw [key.mp c] at k; exact k
  · have : mkG B st p i = true := by
      cases q : mkG B st p i with
      | true => rfl
      | false => exact absurd (key.mpr q) c
    rw [this] at k; exact k
def edgG (B : Bd) (p : Nat) : Nat := min (min (p % bW B) (bW B - 1 - p % bW B)) (min (p / bW B) (bH B - 1 - p / bW B))
theorem bOk_xy {B : Bd} {p : Nat} (hp : p < bN B) : p % bW B < bW B ∧ p / bW B < bH B := xy_lt hp
theorem s_toEdge {Q : Option Value → mw → Prop} {M : mw} {B : Bd} (hB : bOk B) (hM : MB B M) {p : Nat} (hp : p < bN B) (k : Q (some (.int (nI (edgG B p)))) M) : V_toEdge [.ref 0, .int (nI p)] M Q := by
  have hw : M.1 35 0 = nI (bW B) := hM.1
  have hh : M.1 36 0 = nI (bH B) := hM.2.1
  obtain ⟨b1, b2, b3, b4, b5, -⟩ := hB
  obtain ⟨c1, c2⟩ := bOk_xy hp
  have h0 : ¬ (nI (bW B) = 0) := by simp (disch := omega) only [n_lit, n_add, n_mul, n_tn, n_in, n_lt, n_le, n_eq, n_eqg, n_geq, n_ltg, n_gle, n_div, n_rem, lc_eq, lc_le, lc_lt, lc_ge, lc_gt]; omega
  refine e_toEdge (r_toEdge_0 ⟨by rw [hw]; exact h0, by rw [hw]; exact h0, ?_⟩)
  rw [hw]
  have e1 : nI (bW B) - 1 - bs_irem (nI p) (nI (bW B)) = nI (bW B - 1 - p % bW B) := by
    simp (disch := omega) only [n_lit, n_add, n_mul, n_tn, n_in, n_lt, n_le, n_eq, n_eqg, n_geq, n_ltg, n_gle, n_div, n_rem, lc_eq, lc_le, lc_lt, lc_ge, lc_gt, n_sub]
  have e2 : nI (bH B) - 1 - nI p / nI (bW B) = nI (bH B - 1 - p / bW B) := by
    simp (disch := omega) only [n_lit, n_add, n_mul, n_tn, n_in, n_lt, n_le, n_eq, n_eqg, n_geq, n_ltg, n_gle, n_div, n_rem, lc_eq, lc_le, lc_lt, lc_ge, lc_gt, n_sub]
  rw [e1]
  rw [n_rem (by omega) (by omega)]
  refine s_least _ _ (by omega) (by omega) (r_toEdge_26 ?_)
  rw [hh, e2, n_div (by omega) (by omega)]
  refine s_least _ _ (by omega) (by generalize p / bW B = y; omega) (r_toEdge_38 ?_)
  refine s_least _ _ (by omega) (by generalize p / bW B = y at *; omega) (r_toEdge_41 ⟨trivial, k⟩)
theorem tI_of {x : Int32} {a : Int} (h : x.toInt = a) (h1 : -2147483648 ≤ a) (h2 : a < 2147483648) : x = Int32.ofInt a := by rw [← h, Int32.ofInt_toInt]
/-- differences of small numbers -/
theorem d_T {a b : Nat} (ha : a < 1000) (hb : b < 1000) : (nI a - nI b).toInt = (a : Int) - b := by
  rw [Int32.toInt_sub, n_T (by omega), n_T (by omega)]; exact Int.bmod_eq_of_le (by omega) (by omega)
theorem d_neg {a b : Nat} (ha : a < 1000) (hb : b < 1000) (h : a < b) : -(nI a - nI b) = nI (b - a) := by
  rw [Int32.neg_sub]; exact n_sub (by omega)
theorem s_stepsBetween {Q : Option Value → mw → Prop} {M : mw} {B : Bd} (hB : bOk B) (hM : MB B M) {a b : Nat} (ha : a < bN B) (hb : b < bN B) (k : Q (some (.int (nI (stp (bW B) a b)))) M) : V_stepsBetween [.ref 0, .int (nI a), .int (nI b)] M Q := by
  have hw : M.1 35 0 = nI (bW B) := hM.1
  obtain ⟨b1, b2, b3, b4, b5, -⟩ := hB
  obtain ⟨c1, c2⟩ := bOk_xy ha
  obtain ⟨d1, d2⟩ := bOk_xy hb
  have h0 : ¬ (nI (bW B) = 0) := by simp (disch := omega) only [n_lit, n_add, n_mul, n_tn, n_in, n_lt, n_le, n_eq, n_eqg, n_geq, n_ltg, n_gle, n_div, n_rem, lc_eq, lc_le, lc_lt, lc_ge, lc_gt]; omega
  unfold stp at k
  refine e_stepsBetween (r_stepsBetween_0 ?_)
  rw [hw, n_rem (by omega) (by omega), n_rem (by omega) (by omega), n_div (by omega) (by omega), n_div (by omega) (by omega)]
  generalize a % bW B = ax at *
  generalize b % bW B = bx at *
  generalize a / bW B = ay at *
  generalize b / bW B = by_ at *
  have hx : adf bx ax < 7 := by unfold adf; omega
  have hy : adf by_ ay < 7 := by unfold adf; omega
  have step4 : (adf bx ax = 0 ∨ adf by_ ay = 0 ∨ adf bx ax = adf by_ ay) → ∀ {o0 o1 o2 : Option Value}, T_stepsBetween Q 70 [o0, o1, o2, some (.int (nI (adf bx ax))), some (.int (nI (adf by_ ay)))] [] M := by
    intro c o0 o1 o2
    rw [if_pos c] at k
    refine r_stepsBetween_70 (s_least _ _ (by omega) (by omega) (r_stepsBetween_80 (r_stepsBetween_85 ⟨trivial, ?_⟩)))
    have e : nI (adf bx ax) + nI (adf by_ ay) - nI (min (adf bx ax) (adf by_ ay)) = nI (max (adf bx ax) (adf by_ ay)) := by
      rw [n_add, n_sub (by omega)]; congr 1; omega
    rw [e]; exact k
  have step3 : ∀ {o0 o1 o2 o4 : Option Value}, T_stepsBetween Q 53 [o0, o1, o2, some (.int (nI (adf bx ax))), o4] [.int (nI (adf by_ ay))] M := by
    intro o0 o1 o2 o4
    refine r_stepsBetween_53 ⟨fun c => step4 ?_, fun c => ⟨fun c2 => step4 ?_, fun c2 => ⟨fun c3 => r_stepsBetween_85 ⟨trivial, ?_⟩, fun c3 => step4 ?_⟩⟩⟩
    · simp (disch := omega) only [n_lit, n_eq] at c; exact Or.inl c
    · simp (disch := omega) only [n_lit, n_eq] at c2; exact Or.inr (Or.inl c2)
    · simp (disch := omega) only [n_lit, n_eq] at c c2 c3
      rw [if_neg (by omega)] at k; exact k
    · simp (disch := omega) only [n_lit, n_eq, Decidable.not_not] at c3; exact Or.inr (Or.inr c3)
  have ab : ∀ x y : Nat, x < 7 → y < 7 → (0 ≤ nI x - nI y → nI x - nI y = nI (adf x y)) ∧ (¬ (0 ≤ nI x - nI y) → -(nI x - nI y) = nI (adf x y)) := by
    intro x y hx hy
    rw [Int32.le_iff_toInt_le, d_T (by omega) (by omega)]
    refine ⟨fun c => ?_, fun c => ?_⟩
    · have : (0 : Int32).toInt = 0 := rfl
      rw [n_sub (by omega)]; congr 1; unfold adf; omega
    · have : (0 : Int32).toInt = 0 := rfl
      rw [d_neg (by omega) (by omega) (by omega)]; congr 1; unfold adf; omega
  have step2 : ∀ {o0 o1 o2 o3 : Option Value}, T_stepsBetween Q 39 [o0, o1, o2, o3, some (.int (nI by_ - nI ay))] [.int (nI (adf bx ax))] M := by
    intro o0 o1 o2 o3
    refine r_stepsBetween_39 ⟨fun c => ?_, fun c => ?_⟩
    · rw [(ab by_ ay (by omega) (by omega)).1 c]; exact step3
    · rw [(ab by_ ay (by omega) (by omega)).2 c]; exact step3
  refine ⟨h0, h0, h0, h0, fun c => ?_, fun c => ?_⟩
  · have q := (ab bx ax (by omega) (by omega)).1 c
    rw [q]; exact step2
  · rw [(ab bx ax (by omega) (by omega)).2 c]; exact step2
theorem t_div {x y n k : Nat} (hx : x < 7) (hy : y < 7) (hn : n < 7) (h0 : n ≠ 0) (h : adf x y = 0 ∨ adf x y = n) (hk : k < n) : (nI x - nI y) / nI n * nI k = nI (tow y x k) - nI y := by
  have key : ∀ x y n k : Fin 7, (decide (k.val < n.val) && (decide (adf x.val y.val = 0) || decide (adf x.val y.val = n.val))) = true → (nI x.val - nI y.val) / nI n.val * nI k.val = nI (tow y.val x.val k.val) - nI y.val := by decide +kernel
  exact key ⟨x, hx⟩ ⟨y, hy⟩ ⟨n, hn⟩ ⟨k, by omega⟩ (by simp [hk, h])
theorem t_ring (W AX AY TX TY : Int32) : (W * AY + AX) + W * (TY - AY) + (TX - AX) = W * TY + TX := by grind
theorem s_towards {Q : Option Value → mw → Prop} {M : mw} {B : Bd} (hB : bOk B) (hM : MB B M) {a b k : Nat} (ha : a < bN B) (hb : b < bN B) (hk : k < stp (bW B) a b) (q : Q (some (.int (nI (btw (bW B) a b k)))) M) : V_towards [.ref 0, .int (nI a), .int (nI b), .int (nI (stp (bW B) a b)), .int (nI k)] M Q := by
  have hw : M.1 35 0 = nI (bW B) := hM.1
  obtain ⟨b1, b2, b3, b4, b5, -⟩ := hB
  obtain ⟨c1, c2⟩ := bOk_xy ha
  obtain ⟨d1, d2⟩ := bOk_xy hb
  have hs := stp_le b2 b4 ha hb
  obtain ⟨s1, s2⟩ := stp_ne (w := bW B) (a := a) (b := b) (by omega)
  have h0 : ¬ (nI (bW B) = 0) := by simp (disch := omega) only [n_lit, n_add, n_mul, n_tn, n_in, n_lt, n_le, n_eq, n_eqg, n_geq, n_ltg, n_gle, n_div, n_rem, lc_eq, lc_le, lc_lt, lc_ge, lc_gt]; omega
  have h1 : ¬ (nI (stp (bW B) a b) = 0) := by simp (disch := omega) only [n_lit, n_add, n_mul, n_tn, n_in, n_lt, n_le, n_eq, n_eqg, n_geq, n_ltg, n_gle, n_div, n_rem, lc_eq, lc_le, lc_lt, lc_ge, lc_gt]; omega
  refine e_towards (r_towards_0 ?_)
  rw [hw]
  refine ⟨h0, h0, h1, h0, h0, h1, trivial, ?_⟩
  rw [n_rem (by omega) (by omega), n_rem (by omega) (by omega), n_div (by omega) (by omega), n_div (by omega) (by omega)]
  rw [t_div (by omega) (by omega) (by omega) (by omega) s1 hk, t_div (by omega) (by omega) (by omega) (by omega) s2 hk]
  have e : nI a = nI (bW B) * nI (a / bW B) + nI (a % bW B) := by rw [n_mul, n_add, Nat.div_add_mod]
  rw [e, t_ring, n_mul, n_add]
  exact q
theorem bI_n0 {b : Bool} (h : ¬ (bI b = 0)) : b = true := by cases b <;> simp_all [bI]
theorem bI_nn0 {b : Bool} (h : ¬ ¬ (bI b = 0)) : b = false := by cases b <;> simp_all [bI]
theorem bI_e0 {b : Bool} (h : bI b = 0) : b = false := by cases b <;> simp_all [bI]
theorem s_isLine {Q : Option Value → mw → Prop} {M : mw} {B : Bd} {st : Nat → Nat} (hB : bOk B) (hM : MB B M) (hS : MS st M) (hs : sOk B st) {a b : Nat} (ha : a < bN B) (hb : b < bN B) (sa : st a ≠ 0) (sb : st b ≠ 0) (q : Q (some (.int (bI (lineG B st a b)))) M) : V_isLine [.ref 0, .int (nI a), .int (nI b)] M Q := by
  have hN := hB.2.2.2.2.1
  have hK := hB.2.2.2.2.2.1
  have ka := sOk_kd hs sa
  have kb := sOk_kd hs sb
  have ra := (hB.2.2.2.2.2.2.1 _ ka).1
  have rb := (hB.2.2.2.2.2.2.1 _ kb).1
  have a2 : 2 ≤ st a := by have := hs a; omega
  have b2 : 2 ≤ st b := by have := hs b; omega
  have hl := stp_le hB.2.1 hB.2.2.2.1 ha hb
  have no : lineG B st a b = false → Q (some (.int 0)) M := fun e => by rw [e] at q; exact q
  have yes : lineG B st a b = true → Q (some (.int 1)) M := fun e => by rw [e] at q; exact q
  refine e_isLine (r_isLine_0 (s_stepsBetween hB hM ha hb (r_isLine_6 ⟨fun c => ⟨nr_0, no ?_⟩, fun c => ?_⟩)))
  · simp (disch := omega) only [n_lit, n_eq] at c
    simp [lineG, c]
  simp (disch := omega) only [n_lit, n_eq] at c
  refine s_hasMark (i := 2) hB hM hS hs (by omega) sa 4 (by omega) (r_isLine_17 ⟨fun c1 => ⟨nr_0, no ?_⟩, fun c1 => ?_⟩)
  · simp [lineG, bI_n0 c1]
  refine s_hasMark (i := 2) hB hM hS hs (by omega) sb 4 (by omega) (r_isLine_26 ⟨fun c2 => ?_, fun c2 => ⟨nr_0, no ?_⟩⟩)
  rotate_left
  · simp [lineG, bI_n0 c2]
  refine s_kindAt hS (sOk_lt hB hs) (by omega) a2 (r_isLine_42 ?_)
  have e1 : (5 : Int32) + nI (kdG st a) = nI (5 + kdG st a) := n_add 5 _
  have e2 : (5 : Int32) + nI (kdG st b) = nI (5 + kdG st b) := n_add 5 _
  rw [e1, n_tn (by omega), hM.2.2.2.1 _ ka]
  refine ⟨(n_in (by omega)).mpr (by omega), fun c3 => ⟨nr_0, no ?_⟩, fun c3 => ?_⟩
  · rw [n_lt (by omega) (by omega)] at c3
    have : ¬ (stp (bW B) a b ≤ bR B (kdG st a)) := by omega
    simp [lineG, this]
  rw [n_lt (by omega) (by omega)] at c3
  refine s_kindAt hS (sOk_lt hB hs) (by omega) b2 (r_isLine_58 ?_)
  rw [e2, n_tn (by omega), hM.2.2.2.1 _ kb]
  refine ⟨(n_in (by omega)).mpr (by omega), fun c4 => ?_, fun c4 => ⟨nr_0, no ?_⟩⟩
  rotate_left
  · rw [n_le (by omega) (by omega)] at c4
    simp [lineG, c4]
  rw [n_le (by omega) (by omega)] at c4
  have c1' := bI_nn0 c1
  have c2' := bI_e0 c2
  have c3' : stp (bW B) a b ≤ bR B (kdG st a) := by omega
  have base : lineG B st a b = (mkG B st a 0 || mkG B st b 0 || (List.range (stp (bW B) a b)).all (fun k => decide (k = 0) || decide (st (btw (bW B) a b k) = 0) || mkG B st (btw (bW B) a b k) 1)) := by
    simp [lineG, c, c1', c2', c3', c4]
  refine s_hasMark (i := 0) hB hM hS hs (by omega) sa 1 (by omega) (r_isLine_71 ⟨fun c5 => ⟨nr_1, yes ?_⟩, fun c5 => ?_⟩)
  · rw [base, bI_n0 c5]; rfl
  refine s_hasMark (i := 0) hB hM hS hs (by omega) sb 1 (by omega) (r_isLine_80 ⟨fun c6 => ?_, fun c6 => ⟨nr_1, yes ?_⟩⟩)
  rotate_left
  · rw [base, bI_n0 c6]; simp
  rw [bI_nn0 c5, bI_e0 c6, Bool.false_or, Bool.false_or] at base
  have loop : ∀ (f k : Nat), 1 ≤ k → k + f = stp (bW B) a b → (∀ j, j < k → (decide (j = 0) || decide (st (btw (bW B) a b j) = 0) || mkG B st (btw (bW B) a b j) 1) = true) → ∀ {o5 : Option Value}, T_isLine Q 88 [some (.ref 0), some (.int (nI a)), some (.int (nI b)), some (.int (nI (stp (bW B) a b))), some (.int (nI k)), o5] [] M := by
    intro f
    induction f with
    | zero =>
      intro k k1 kf hj o5
      refine r_isLine_88 ⟨fun d => ⟨nr_1, yes ?_⟩, fun d => ?_⟩
      · rw [base, List.all_eq_true]
        intro j hjm
        exact hj j (by have := List.mem_range.mp hjm; omega)
      · rw [n_le (by omega) (by omega)] at d; omega
    | succ f ih =>
      intro k k1 kf hj o5
      refine r_isLine_88 ⟨fun d => ?_, fun d => ?_⟩
      · rw [n_le (by omega) (by omega)] at d; omega
      have hbt := btw_lt (h := bH B) ha hb (k := k) (by omega)
      have hbt : btw (bW B) a b k < bN B := hbt
      have next : (decide (k = 0) || decide (st (btw (bW B) a b k) = 0) || mkG B st (btw (bW B) a b k) 1) = true → ∀ {o5 : Option Value}, T_isLine Q 88 [some (.ref 0), some (.int (nI a)), some (.int (nI b)), some (.int (nI (stp (bW B) a b))), some (.int (nI k + 1)), o5] [] M := by
        intro hn o5
        have : nI k + 1 = nI (k + 1) := n_add k 1
        rw [this]
        refine ih (k + 1) (by omega) (by omega) (fun j hjk => ?_)
        by_cases e : j = k
        · subst e; exact hn
        · exact hj j (by omega)
      refine s_towards hB hM ha hb (by omega) (r_isLine_103 (s_isFree hS (sOk_lt hB hs) (by omega) (r_isLine_111 ⟨fun d2 => next ?_, fun d2 => ?_⟩)))
      · rw [bI_n0 d2]; simp
      have d3 := bI_nn0 d2
      have d4 : st (btw (bW B) a b k) ≠ 0 := by simpa using d3
      refine s_hasMark (i := 1) hB hM hS hs (by omega) d4 2 (by omega) (r_isLine_121 ⟨fun d5 => next ?_, fun d5 => ⟨nr_0, no ?_⟩⟩)
      · rw [bI_n0 d5]; simp
      · rw [base]
        rw [List.all_eq_false]
        refine ⟨k, List.mem_range.mpr (by omega), ?_⟩
        rw [d3, bI_nn0 d5]
        simp; omega
  exact loop (stp (bW B) a b - 1) 1 (by omega) (by omega) (fun j hj => by simp; omega)
