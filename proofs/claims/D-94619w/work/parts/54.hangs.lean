/-! what hangs together -/
def nbr (B : Bd) (p : Nat) : Nat → Option Nat
  | 0 => if p % bW B + 1 < bW B then some (p + 1) else none
  | 1 => if 0 < p % bW B then some (p - 1) else none
  | 2 => if p / bW B + 1 < bH B then some (p + bW B) else none
  | 3 => if 0 < p / bW B then some (p - bW B) else none
  | _ => none
theorem nbr_0 (B : Bd) (p : Nat) : nbr B p 0 = if p % bW B + 1 < bW B then some (p + 1) else none := rfl
theorem nbr_1 (B : Bd) (p : Nat) : nbr B p 1 = if 0 < p % bW B then some (p - 1) else none := rfl
theorem nbr_2 (B : Bd) (p : Nat) : nbr B p 2 = if p / bW B + 1 < bH B then some (p + bW B) else none := rfl
theorem nbr_3 (B : Bd) (p : Nat) : nbr B p 3 = if 0 < p / bW B then some (p - bW B) else none := rfl
/-- the places that hang together with one, off an edge: the least set that holds it and goes on to free neighbours -/
def Rc (B : Bd) (e : Int64) (p q : Nat) : Prop := ∀ S : Nat → Prop, S p → (∀ u v d, S u → nbr B u d = some v → mb e v = false → S v) → S q
theorem Rc_refl (B : Bd) (e : Int64) (p : Nat) : Rc B e p p := fun S h _ => h
theorem Rc_step {B : Bd} {e : Int64} {p u v d : Nat} (h : Rc B e p u) (hn : nbr B u d = some v) (hv : mb e v = false) : Rc B e p v := fun S h1 h2 => h2 u v d (h S h1 h2) hn hv
theorem nbr_d {B : Bd} {p d v : Nat} (h : nbr B p d = some v) : d < 4 := by
  unfold nbr at h; split at h <;> first | omega | cases h
theorem nbr_lt {B : Bd} {p d v : Nat} (hp : p < bN B) (h : nbr B p d = some v) : v < bN B := by
  obtain ⟨c1, c2⟩ := bOk_xy hp
  have e := Nat.div_add_mod p (bW B)
  unfold bN at *
  unfold nbr at h
  split at h
  · split at h <;> cases h
    have := pl_lt (w := bW B) (h := bH B) (x := p % bW B + 1) (y := p / bW B) (by omega) c2
    omega
  · split at h <;> cases h
    omega
  · split at h <;> cases h
    have := pl_lt (w := bW B) (h := bH B) (x := p % bW B) (y := p / bW B + 1) (by omega) (by omega)
    rw [Nat.mul_add] at this
    omega
  · split at h <;> cases h
    omega
  · cases h
theorem s_isInside {Q : Option Value → mw → Prop} {M : mw} {B : Bd} (hB : bOk B) (hM : MB B M) (x y : Int32) (q : Q (some (.int (bI (decide ((0 ≤ x.toInt ∧ x.toInt < bW B) ∧ (0 ≤ y.toInt ∧ y.toInt < bH B)))))) M) : V_isInside [.ref 0, .int x, .int y] M Q := by
  obtain ⟨b1, b2, b3, b4, -⟩ := hB
  have hw : M.1 35 0 = nI (bW B) := hM.1
  have hh : M.1 36 0 = nI (bH B) := hM.2.1
  have e : ∀ n : Nat, n ≤ 7 → (nI n - 1).toInt = (n : Int) - 1 := fun n hn => by
    rw [Int32.toInt_sub, n_T (by omega)]; exact Int.bmod_eq_of_le (by simp; omega) (by simp; omega)
  have z : (0 : Int32).toInt = 0 := rfl
  refine e_isInside (r_isInside_0 ?_)
  rw [hw]
  refine s_isIn32 (b := 0) _ _ (r_isInside_13 ?_)
  rw [hh, e _ b2, z]
  refine ⟨fun c => ⟨nr_0, ?_⟩, fun c => ?_⟩
  · have c1 := bI_e0 c
    simp only [decide_eq_false_iff_not] at c1
    rw [decide_eq_false (by omega)] at q; exact q
  have c1 := bI_n0 c
  simp only [decide_eq_true_eq] at c1
  refine s_isIn32 (b := 0) _ _ (r_isInside_29 ?_)
  rw [e _ b4, z]
  refine ⟨fun c => ⟨nr_0, ?_⟩, fun c => ⟨nr_1, ?_⟩⟩
  · have c2 := bI_e0 c
    simp only [decide_eq_false_iff_not] at c2
    rw [decide_eq_false (by omega)] at q; exact q
  · have c2 := bI_n0 c
    simp only [decide_eq_true_eq] at c2
    rw [decide_eq_true (by omega)] at q; exact q
theorem hg_98 {Q : Option Value → mw → Prop} {M : mw} {B : Bd} (hB : bOk B) (hM : MB B M) {s : Int64} {n p d : Nat} (hp : p < bN B) (hn : n ≤ 36) (X s0 s1 : Int32)
    (hin : ((0 ≤ X.toInt ∧ X.toInt < bW B) ∧ (0 ≤ (s1 + s0).toInt ∧ (s1 + s0).toInt < bH B)) ↔ ∃ v, nbr B p d = some v)
    (hv : ∀ v, nbr B p d = some v → nI (bW B) * (s1 + s0) + X = nI v)
    (k1 : (∀ v, nbr B p d = some v → (mb s v || mb (M.2 58 0) v) = true) → ∀ {o1 o3 o7 o8 o9 : Option Value}, T_hangs Q 34 [some (.ref 0), o1, some (.long s), o3, some (.int (nI n)), some (.int (nI p)), some (.int (nI (d + 1))), o7, o8, o9] [] M)
    (k2 : ∀ v, nbr B p d = some v → mb s v = false → mb (M.2 58 0) v = false → n < 36 ∧ ∀ {o1 o3 o7 o8 o9 : Option Value}, T_hangs Q 34 [some (.ref 0), o1, some (.long (s ||| b1 v)), o3, some (.int (nI (n + 1))), some (.int (nI p)), some (.int (nI (d + 1))), o7, o8, o9] [] (mM_up M 62 n (nI v)))
    {o1 o3 o8 o9 : Option Value} : T_hangs Q 98 [some (.ref 0), o1, some (.long s), o3, some (.int (nI n)), some (.int (nI p)), some (.int (nI d)), some (.int X), o8, o9] [.int s0, .int s1] M := by
  have hN := hB.2.2.2.2.1
  have hw : M.1 35 0 = nI (bW B) := hM.1
  have ed : nI d + 1 = nI (d + 1) := n_add d 1
  have en : nI n + 1 = nI (n + 1) := n_add n 1
  refine r_hangs_98 (s_isInside hB hM _ _ (r_hangs_121 ⟨fun c => r_hangs_162 ?_, fun c => ?_⟩))
  · rw [ed]
    have c1 := bI_e0 c
    simp only [decide_eq_false_iff_not] at c1
    exact k1 (fun v hv2 => absurd (hin.mpr ⟨v, hv2⟩) c1)
  have c1 := bI_n0 c
  simp only [decide_eq_true_eq] at c1
  obtain ⟨v, hv2⟩ := hin.mp c1
  have v36 := nbr_lt hp hv2
  rw [hw, hv v hv2]
  have ht := mb_t1 (s ||| M.2 58 0) (k := v) (by omega)
  refine ⟨fun c2 => ?_, fun c2 => r_hangs_162 ?_⟩
  · rw [lg_cmp_eq, ht, mb_or] at c2
    have c3 : mb s v = false ∧ mb (M.2 58 0) v = false := by
      cases q1 : mb s v <;> cases q2 : mb (M.2 58 0) v <;> simp_all
    obtain ⟨z1, z2⟩ := k2 v hv2 c3.1 c3.2
    refine ⟨(n_in (by omega)).mpr (by omega), r_hangs_162 ?_⟩
    rw [ed, en, n_tn (by omega)]
    exact z2
  · rw [ed]
    rw [lg_cmp_eq, ht, mb_or, Decidable.not_not] at c2
    exact k1 (fun v' hv' => by rw [hv2] at hv'; cases hv'; exact c2)
theorem m1_T {a : Nat} (ha : a < 1000) : (nI a + -1).toInt = (a : Int) - 1 := by
  rw [← Int32.sub_eq_add_neg]; exact d_T (b := 1) ha (by omega)
theorem p1_T {a : Nat} (ha : a < 1000) : (nI a + 1).toInt = (a : Int) + 1 := by
  have : nI a + 1 = nI (a + 1) := n_add a 1
  rw [this, n_T (by omega)]; omega
theorem p0_T {a : Nat} (ha : a < 1000) : (nI a + 0).toInt = (a : Int) := by
  have : nI a + 0 = nI a := n_add a 0
  rw [this, n_T (by omega)]
theorem r_d0 (W Y X : Int32) : W * (Y + 0) + (X + 1) = (W * Y + X) + 1 := by grind
theorem r_d1 (W Y X : Int32) : W * (Y + 0) + (X + -1) = (W * Y + X) - 1 := by grind
theorem r_d2 (W Y X : Int32) : W * (Y + 1) + (X + 0) = (W * Y + X) + W := by grind
theorem r_d3 (W Y X : Int32) : W * (Y + -1) + (X + 0) = (W * Y + X) - W := by grind
theorem hg_d {Q : Option Value → mw → Prop} {M : mw} {B : Bd} (hB : bOk B) (hM : MB B M) {s : Int64} {n p d : Nat} (hp : p < bN B) (hd : d < 4) (hn : n ≤ 36)
    (k1 : (∀ v, nbr B p d = some v → (mb s v || mb (M.2 58 0) v) = true) → ∀ {o1 o3 o7 o8 o9 : Option Value}, T_hangs Q 34 [some (.ref 0), o1, some (.long s), o3, some (.int (nI n)), some (.int (nI p)), some (.int (nI (d + 1))), o7, o8, o9] [] M)
    (k2 : ∀ v, nbr B p d = some v → mb s v = false → mb (M.2 58 0) v = false → n < 36 ∧ ∀ {o1 o3 o7 o8 o9 : Option Value}, T_hangs Q 34 [some (.ref 0), o1, some (.long (s ||| b1 v)), o3, some (.int (nI (n + 1))), some (.int (nI p)), some (.int (nI (d + 1))), o7, o8, o9] [] (mM_up M 62 n (nI v)))
    {o1 o3 o7 o8 o9 : Option Value} : T_hangs Q 34 [some (.ref 0), o1, some (.long s), o3, some (.int (nI n)), some (.int (nI p)), some (.int (nI d)), o7, o8, o9] [] M := by
  have hN := hB.2.2.2.2.1
  have hw : M.1 35 0 = nI (bW B) := hM.1
  obtain ⟨b1_, b2, b3, b4, -⟩ := id hB
  obtain ⟨c1, c2⟩ := bOk_xy hp
  have h0 : ¬ (nI (bW B) = 0) := by simp (disch := omega) only [n_lit, n_add, n_mul, n_tn, n_in, n_lt, n_le, n_eq, n_eqg, n_geq, n_ltg, n_gle, n_div, n_rem, lc_eq, lc_le, lc_lt, lc_ge, lc_gt]; omega
  have ep : nI p = nI (bW B) * nI (p / bW B) + nI (p % bW B) := by rw [n_mul, n_add, Nat.div_add_mod]
  have epn := Nat.div_add_mod p (bW B)
  have hz : 0 ≤ p / bW B := Nat.zero_le _
  have hz2 : 0 ≤ p % bW B := Nat.zero_le _
  refine r_hangs_34 ?_
  rw [hw, n_rem (by omega) (by omega)]
  refine ⟨fun c => ?_, fun _ => ⟨h0, ?_⟩⟩
  · have : (4 : Int32) = nI 4 := rfl
    rw [this, n_le (by omega) (by omega)] at c; omega
  have l0 : (0 : Int32) = nI 0 := rfl
  have l1 : (1 : Int32) = nI 1 := rfl
  have l2 : (2 : Int32) = nI 2 := rfl
  have l3 : (3 : Int32) = nI 3 := rfl
  have q0 : (nI d = 0) ↔ d = 0 := by rw [l0, n_eq (by omega) (by omega)]
  have q1 : (nI d = 1) ↔ d = 1 := by rw [l1, n_eq (by omega) (by omega)]
  have q2 : (nI d = 2) ↔ d = 2 := by rw [l2, n_eq (by omega) (by omega)]
  have q3 : (nI d = 3) ↔ d = 3 := by rw [l3, n_eq (by omega) (by omega)]
  rw [q0, q1]
  refine ⟨fun e0 => ⟨fun e1 => ?_, fun e1 => ?_⟩, fun e0 => ?_⟩
  · refine r_hangs_67 ?_
    rw [hw, n_div (by omega) (by omega), q2, q3]
    refine ⟨h0, fun e2 => ⟨fun e3 => by omega, fun e3 => ?_⟩, fun e2 => ?_⟩
    · have : d = 3 := by omega
      subst this
      refine hg_98 hB hM hp hn _ _ _ ?_ (fun v hv => ?_) k1 k2
      · rw [m1_T (by omega), p0_T (by omega)]; rw [nbr_3]
        constructor
        · intro z; rw [if_pos (by omega)]; exact ⟨_, rfl⟩
        · intro ⟨v, z⟩; split at z <;> first | (cases z; done) | omega
      · rw [nbr_3] at hv; split at hv
        · cases hv
          rw [r_d3, ← ep]
          have : bW B ≤ p := by
            have : bW B * 1 ≤ bW B * (p / bW B) := Nat.mul_le_mul_left _ (by omega)
            omega
          exact n_sub this
        · cases hv
    · have : d = 2 := by omega
      subst this
      refine hg_98 hB hM hp hn _ _ _ ?_ (fun v hv => ?_) k1 k2
      · rw [p1_T (by omega), p0_T (by omega)]; rw [nbr_2]
        constructor
        · intro z; rw [if_pos (by omega)]; exact ⟨_, rfl⟩
        · intro ⟨v, z⟩; split at z <;> first | (cases z; done) | omega
      · rw [nbr_2] at hv; split at hv
        · cases hv
          rw [r_d2, ← ep]; exact n_add _ _
        · cases hv
  · have : d = 1 := by omega
    subst this
    refine r_hangs_67 ?_
    rw [hw, n_div (by omega) (by omega), q2, q3]
    refine ⟨h0, fun e2 => ⟨fun e3 => ?_, fun e3 => by omega⟩, fun e2 => by omega⟩
    refine hg_98 hB hM hp hn _ _ _ ?_ (fun v hv => ?_) k1 k2
    · rw [m1_T (by omega), p0_T (by omega)]; rw [nbr_1]
      constructor
      · intro z; rw [if_pos (by omega)]; exact ⟨_, rfl⟩
      · intro ⟨v, z⟩; split at z <;> first | (cases z; done) | omega
    · rw [nbr_1] at hv; split at hv
      · cases hv
        rw [r_d1, ← ep]; exact n_sub (b := 1) (by omega)
      · cases hv
  · have : d = 0 := by omega
    subst this
    refine r_hangs_67 ?_
    rw [hw, n_div (by omega) (by omega), q2, q3]
    refine ⟨h0, fun e2 => ⟨fun e3 => ?_, fun e3 => by omega⟩, fun e2 => by omega⟩
    refine hg_98 hB hM hp hn _ _ _ ?_ (fun v hv => ?_) k1 k2
    · rw [p1_T (by omega), p0_T (by omega)]; rw [nbr_0]
      constructor
      · intro z; rw [if_pos (by omega)]; exact ⟨_, rfl⟩
      · intro ⟨v, z⟩; split at z <;> first | (cases z; done) | omega
    · rw [nbr_0] at hv; split at hv
      · cases hv
        rw [r_d0, ← ep]; exact n_add _ 1
      · cases hv
/-- how many of the first k places a set holds -/
def ctT (s : Int64) : Nat → Nat
  | 0 => 0
  | k + 1 => ctT s k + (if mb s k then 1 else 0)
theorem ctT_le (s : Int64) (k : Nat) : ctT s k ≤ k := by
  induction k with
  | zero => exact Nat.le_refl _
  | succ k ih => unfold ctT; split <;> omega
theorem mb_b1 {k p : Nat} (hk : k < 64) (hp : p < 64) : mb (b1 k) p = decide (p = k) := mb_bit hk hp
theorem ctT_same {s t : Int64} {k : Nat} (h : ∀ p, p < k → mb s p = mb t p) : ctT s k = ctT t k := by
  induction k with
  | zero => rfl
  | succ k ih => unfold ctT; rw [ih (fun p hp => h p (by omega)), h k (by omega)]
theorem ctT_add {s : Int64} {v k : Nat} (hv : v < k) (hk : k ≤ 64) (h : mb s v = false) : ctT (s ||| b1 v) k = ctT s k + 1 := by
  induction k with
  | zero => omega
  | succ k ih =>
    unfold ctT
    by_cases e : v = k
    · subst e
      have : ctT (s ||| b1 v) v = ctT s v := ctT_same (fun p hp => by rw [mb_or, mb_b1 (by omega) (by omega)]; simp; omega)
      rw [this, mb_or, mb_b1 (by omega) (by omega), h]; simp
    · rw [ih (by omega) (by omega), mb_or, mb_b1 (by omega) (by omega)]
      have : ¬ (k = v) := fun z => e z.symm
      simp [this]; omega
def bldL (f : Nat → Bool) : Nat → Int64
  | 0 => 0
  | k + 1 => if f k = true then bldL f k ||| b1 k else bldL f k
theorem mb_bldL (f : Nat → Bool) {k p : Nat} (hk : k ≤ 64) (hp : p < 64) : mb (bldL f k) p = (decide (p < k) && f p) := by
  induction k with
  | zero => simp [bldL, mb_0]
  | succ k ih =>
    unfold bldL
    by_cases e : f k = true
    · rw [if_pos e, mb_or, ih (by omega), mb_b1 (by omega) hp]
      by_cases z : p = k
      · subst z; simp [e]
      · have : decide (p < k + 1) = decide (p < k) := by apply decide_eq_decide.mpr; omega
        simp [z, this]
    · rw [if_neg e, ih (by omega)]
      by_cases z : p = k
      · subst z
        have : f p = false := by simpa using e
        simp [this]
      · have : decide (p < k + 1) = decide (p < k) := by apply decide_eq_decide.mpr; omega
        rw [this]
noncomputable def cpL (B : Bd) (e : Int64) (p : Nat) : Int64 := bldL (fun q => @decide (Rc B e p q) (Classical.propDecidable _)) 64
theorem mb_cpL (B : Bd) (e : Int64) (p : Nat) {q : Nat} (hq : q < 64) : mb (cpL B e p) q = true ↔ Rc B e p q := by
  unfold cpL
  rw [mb_bldL _ (by omega) hq]
  simp [hq]
theorem eq_cpL {B : Bd} {e : Int64} {p : Nat} {s : Int64} (h : ∀ q, q < 64 → (mb s q = true ↔ Rc B e p q)) : s = cpL B e p := by
  apply mb_ext
  intro q hq
  have h1 := h q hq
  have h2 := mb_cpL B e p hq
  rw [← h2] at h1
  cases a : mb s q <;> cases b : mb (cpL B e p) q <;> simp_all
theorem s_hangs {Q : Option Value → mw → Prop} {M : mw} {B : Bd} (hB : bOk B) (hM : MB B M) {p : Nat} (hp : p < bN B) (q : ∀ M', fr 62 62 M M' → Q (some (.long (cpL B (M.2 58 0) p))) M') : V_hangs [.ref 0, .int (nI p)] M Q := by
  have hN := hB.2.2.2.2.1
  generalize he : M.2 58 0 = e at *
  have main : ∀ (f n : Nat) (s : Int64) (sk : Nat → Nat) (M1 : mw), 2 * (36 - ctT s 36) + n ≤ f → n ≤ ctT s 36 → fr 62 62 M M1 →
      (∀ u, u < 64 → mb s u = true → Rc B e p u ∧ u < bN B) → mb s p = true → (∀ i, i < n → M1.1 62 i = nI (sk i) ∧ sk i < bN B ∧ mb s (sk i) = true) →
      (∀ u, u < bN B → mb s u = true → (∃ i, i < n ∧ sk i = u) ∨ ∀ d v, nbr B u d = some v → mb e v = false → mb s v = true) →
      ∀ {o1 o3 o5 o6 o7 o8 o9 : Option Value}, T_hangs Q 14 [some (.ref 0), o1, some (.long s), o3, some (.int (nI n)), o5, o6, o7, o8, o9] [] M1 := by
    intro f
    induction f with
    | zero =>
      intro n s sk M1 hf hn g1 g2 g3 g4 g5 o1 o3 o5 o6 o7 o8 o9
      refine r_hangs_14 ⟨fun c => ⟨rfl, ?_⟩, fun c => ?_⟩
      · have : s = cpL B e p := by
          refine eq_cpL (fun v hv => ⟨fun h => (g2 v hv h).1, fun h => ?_⟩)
          refine (h (fun u => mb s u = true ∧ u < bN B) ⟨g3, hp⟩ (fun u v d hu hn2 hv2 => ?_)).1
          have vl := nbr_lt hu.2 hn2
          rcases g5 u hu.2 hu.1 with ⟨i, hi, _⟩ | g
          · omega
          · exact ⟨g d v hn2 hv2, vl⟩
        rw [this]; exact q M1 g1
      · have : (0 : Int32) = nI 0 := rfl
        rw [this, n_le (by omega) (by omega)] at c; omega
    | succ f ih =>
      intro n s sk M1 hf hn g1 g2 g3 g4 g5 o1 o3 o5 o6 o7 o8 o9
      have ct36 := ctT_le s 36
      refine r_hangs_14 ⟨fun c => ⟨rfl, ?_⟩, fun c => ?_⟩
      · have : (0 : Int32) = nI 0 := rfl
        rw [this, n_le (by omega) (by omega)] at c
        have : s = cpL B e p := by
          refine eq_cpL (fun v hv => ⟨fun h => (g2 v hv h).1, fun h => ?_⟩)
          refine (h (fun u => mb s u = true ∧ u < bN B) ⟨g3, hp⟩ (fun u v d hu hn2 hv2 => ?_)).1
          have vl := nbr_lt hu.2 hn2
          rcases g5 u hu.2 hu.1 with ⟨i, hi, _⟩ | g
          · omega
          · exact ⟨g d v hn2 hv2, vl⟩
        rw [this]; exact q M1 g1
      have z0 : (0 : Int32) = nI 0 := rfl
      rw [z0, n_le (by omega) (by omega)] at c
      have en : nI n + -1 = nI (n - 1) := n_subneg (b := 1) (by omega)
      rw [en, n_tn (by omega)]
      refine ⟨(n_in (by omega)).mpr (by omega), ?_⟩
      obtain ⟨g6, g7, g8⟩ := g4 (n - 1) (by omega)
      rw [g6]
      have inner : ∀ (fd d n : Nat) (s : Int64) (sk' : Nat → Nat) (M1 : mw), d + fd = 4 → 2 * (36 - ctT s 36) + n ≤ f → n ≤ ctT s 36 → fr 62 62 M M1 →
          (∀ u, u < 64 → mb s u = true → Rc B e p u ∧ u < bN B) → mb s p = true → (∀ i, i < n → M1.1 62 i = nI (sk' i) ∧ sk' i < bN B ∧ mb s (sk' i) = true) →
          ∀ cur, cur < bN B → mb s cur = true →
          (∀ u, u < bN B → mb s u = true → (∃ i, i < n ∧ sk' i = u) ∨ (∀ d' v, nbr B u d' = some v → mb e v = false → (u = cur → d' < d) → mb s v = true)) →
          ∀ {o1 o3 o7 o8 o9 : Option Value}, T_hangs Q 34 [some (.ref 0), o1, some (.long s), o3, some (.int (nI n)), some (.int (nI cur)), some (.int (nI d)), o7, o8, o9] [] M1 := by
        intro fd
        induction fd with
        | zero =>
          intro d n s sk' M1 hd hf hn g1 g2 g3 g4 cur hc1 hc2 g5 o1 o3 o7 o8 o9
          have ct36 := ctT_le s 36
          refine r_hangs_34 ⟨fun c => ih n s sk' M1 hf hn g1 g2 g3 g4 (fun u hu1 hu2 => ?_), fun c => ?_⟩
          · rcases g5 u hu1 hu2 with h | h
            · exact Or.inl h
            · exact Or.inr (fun d' v h1 h2 => h d' v h1 h2 (fun _ => by have := nbr_d h1; omega))
          · have z4 : (4 : Int32) = nI 4 := rfl
            rw [z4, n_le (by omega) (by omega)] at c; omega
        | succ fd ihd =>
          intro d n s sk' M1 hd hf hn g1 g2 g3 g4 cur hc1 hc2 g5 o1 o3 o7 o8 o9
          have ct36 := ctT_le s 36
          have hM1 : MB B M1 := MB_fr g1 (by omega) hM
          have he1 : M1.2 58 0 = e := by rw [(g1 58 (by omega)).2]; exact he
          refine hg_d hB hM1 hc1 (by omega) (by omega) ?_ ?_
          · intro hb
            rw [he1] at hb
            refine ihd (d + 1) n s sk' M1 (by omega) hf hn g1 g2 g3 g4 cur hc1 hc2 (fun u hu1 hu2 => ?_)
            rcases g5 u hu1 hu2 with h | h
            · exact Or.inl h
            · refine Or.inr (fun d' v h1 h2 h3 => ?_)
              by_cases w : u = cur ∧ d' = d
              · obtain ⟨w1, w2⟩ := w
                subst w1; subst w2
                have := hb v h1
                rw [h2, Bool.or_false] at this; exact this
              · exact h d' v h1 h2 (fun z => by have := h3 z; have : d' ≠ d := fun y => w ⟨z, y⟩; omega)
          · intro v hv1 hv2 hv3
            rw [he1] at hv3
            have vl := nbr_lt hc1 hv1
            have ca := ctT_add (s := s) (v := v) (k := 36) (by omega) (by omega) hv2
            have cb := ctT_le (s ||| b1 v) 36
            refine ⟨by omega, fun {o1 o3 o7 o8 o9} => ?_⟩
            have ms : ∀ u, u < 64 → (mb (s ||| b1 v) u = true ↔ mb s u = true ∨ u = v) := fun u hu => by
              rw [mb_or, mb_b1 (by omega) hu]; simp
            refine ihd (d + 1) (n + 1) (s ||| b1 v) (fun i => if i = n then v else sk' i) _ (by omega) (by omega) (by omega) (fr_trans g1 (fr_up (lo := 62) (hi := 62) M1 _ _ (by omega)) (by omega) (by omega)) ?_ ?_ ?_ cur hc1 ?_ ?_
            · intro u hu h
              rcases (ms u hu).mp h with h | h
              · exact g2 u hu h
              · subst h; exact ⟨Rc_step (g2 cur (by omega) hc2).1 hv1 hv3, vl⟩
            · exact (ms p (by omega)).mpr (Or.inl g3)
            · intro i hi
              by_cases w : i = n
              · subst w; simp [mM_up]; exact ⟨vl, (ms v (by omega)).mpr (Or.inr rfl)⟩
              · have := g4 i (by omega)
                simp [mM_up, w]; exact ⟨this.1, this.2.1, (ms _ (by omega)).mpr (Or.inl this.2.2)⟩
            · exact (ms cur (by omega)).mpr (Or.inl hc2)
            · intro u hu1 hu2
              rcases (ms u (by omega)).mp hu2 with h | h
              · rcases g5 u hu1 h with ⟨i, h1, h2⟩ | h
                · refine Or.inl ⟨i, by omega, ?_⟩
                  have : i ≠ n := by omega
                  simp [this, h2]
                · refine Or.inr (fun d' v' h1 h2 h3 => ?_)
                  have v'l := nbr_lt hu1 h1
                  by_cases w : u = cur ∧ d' = d
                  · obtain ⟨w1, w2⟩ := w
                    subst w1; subst w2
                    rw [hv1] at h1; cases h1
                    exact (ms v (by omega)).mpr (Or.inr rfl)
                  · exact (ms v' (by omega)).mpr (Or.inl (h d' v' h1 h2 (fun z => by have := h3 z; have : d' ≠ d := fun y => w ⟨z, y⟩; omega)))
              · exact Or.inl ⟨n, by omega, by simp [h]⟩
      refine inner 4 0 (n - 1) s sk M1 (by omega) (by omega) (by omega) g1 g2 g3 (fun i hi => g4 i (by omega)) (sk (n - 1)) g7 g8 (fun u hu1 hu2 => ?_)
      by_cases w : u = sk (n - 1)
      · exact Or.inr (fun d' v h1 h2 h3 => absurd (h3 w) (by omega))
      · rcases g5 u hu1 hu2 with ⟨i, h1, h2⟩ | h
        · refine Or.inl ⟨i, ?_, h2⟩
          have : i ≠ n - 1 := fun y => w (by rw [← h2, y])
          omega
        · exact Or.inr (fun d' v h1 h2 _ => h d' v h1 h2)
  refine e_hangs (r_hangs_0 ⟨(n_in (a := 0) (by omega)).mpr (by omega), ?_⟩)
  have z : Int32.toNatClampNeg 0 = 0 := by decide
  rw [z]
  have mp : ∀ u, u < 64 → (mb (b1 p) u = true ↔ u = p) := fun u hu => by rw [mb_b1 (by omega) hu]; simp
  have c0 : ctT (0 ||| b1 p) 36 = ctT 0 36 + 1 := ctT_add (by omega) (by omega) (mb_0 p)
  have c1 : ctT 0 36 = 0 := by decide
  rw [Int64.zero_or] at c0
  refine main 71 1 (b1 p) (fun _ => p) _ (by omega) (by omega) (fr_up M _ _ (by omega)) ?_ ((mp p (by omega)).mpr rfl) ?_ ?_
  · intro u hu h
    have := (mp u hu).mp h
    subst this; exact ⟨Rc_refl B e u, hp⟩
  · intro i hi
    have : i = 0 := by omega
    subst this
    exact ⟨by simp [mM_up], hp, (mp p (by omega)).mpr rfl⟩
  · intro u hu1 hu2
    have := (mp u (by omega)).mp hu2
    exact Or.inl ⟨0, by omega, this.symm⟩
