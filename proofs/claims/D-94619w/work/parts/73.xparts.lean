/-! X: what grows together, parts -/
theorem mb_shrz (x : Int64) {k p : Nat} (hk : k < 64) (hp : p < 64) (h : mb x 63 = false) : mb (x >>> ((nI k).toInt64 &&& 63)) p = mb x (p + k) := by
  by_cases c : p + k < 64
  · exact mb_shr x hk c
  · rw [mb_big x (by omega)]
    unfold mb
    rw [Int64.toBitVec_shiftRight, BitVec.sshiftRight', mb_shm hk, BitVec.getLsbD_sshiftRight]
    have h1 : ¬ (64 ≤ p) := by omega
    have h2 : ¬ (k + p < 64) := by omega
    have h3 : x.toBitVec.msb = false := by
      rw [BitVec.msb_eq_getLsbD_last]; exact h
    simp [h1, h2, h3]
def colG (w h x : Nat) : Nat → Int64
  | 0 => 0
  | y + 1 => colG w h x y ||| b1 (y * w + x)
theorem mb_col {w h x n p : Nat} (hp : p < 64) (hb : ∀ y, y < n → y * w + x < 64) : mb (colG w h x n) p = true ↔ ∃ y, y < n ∧ p = y * w + x := by
  induction n with
  | zero => simp [colG, mb_0]
  | succ n ih =>
    unfold colG
    rw [mb_or, Bool.or_eq_true, ih (fun y hy => hb y (by omega)), mb_b1 (hb n (by omega)) hp]
    constructor
    · rintro (⟨y, h1, h2⟩ | h)
      · exact ⟨y, by omega, h2⟩
      · exact ⟨n, by omega, of_decide_eq_true h⟩
    · rintro ⟨y, h1, h2⟩
      by_cases e : y = n
      · right; rw [← e]; exact decide_eq_true h2
      · exact Or.inl ⟨y, by omega, h2⟩
theorem mb_colp {B : Bd} (hN : bN B ≤ 36) {x p : Nat} (hx : x < bW B) (hp : p < bN B) : mb (colG (bW B) (bH B) x (bH B)) p = decide (p % bW B = x) := by
  have hb : ∀ y, y < bH B → y * bW B + x < bN B := fun y hy => by rw [Nat.mul_comm]; exact pl_lt hx hy
  have key := mb_col (w := bW B) (h := bH B) (x := x) (n := bH B) (p := p) (by omega) (fun y hy => by have := hb y hy; omega)
  have iff2 : (∃ y, y < bH B ∧ p = y * bW B + x) ↔ p % bW B = x := by
    constructor
    · rintro ⟨y, h1, h2⟩
      rw [h2, Nat.mul_comm]; exact mod_of hx
    · intro h
      refine ⟨p / bW B, (bOk_xy hp).2, ?_⟩
      have := Nat.div_add_mod p (bW B)
      rw [h, Nat.mul_comm] at this; omega
  rw [iff2] at key
  by_cases c : p % bW B = x
  · rw [key.mpr c, decide_eq_true c]
  · rw [decide_eq_false c]
    cases z : mb (colG (bW B) (bH B) x (bH B)) p with
    | false => rfl
    | true => exact absurd (key.mp z) c
/-- all places -/
def plcL (N : Nat) : Int64 := (1 <<< ((nI N).toInt64 &&& 63)) - 1
theorem mb_plcL {N p : Nat} (hN : N < 64) (hp : p < 64) : mb (plcL N) p = decide (p < N) := by
  have h1 : mb (b1 N) N = true := by rw [mb_b1 hN hN]; simp
  have h2 : ∀ j, j < N → mb (b1 N) j = false := fun j hj => by rw [mb_b1 hN (by omega)]; simp; omega
  have := mb_sub1 h1 h2 p
  show mb (b1 N - 1) p = _
  rw [this]
  by_cases c : p < N
  · simp [c]
  · rw [if_neg c, mb_b1 hN hp]
    by_cases e : p = N
    · simp [e]
    · simp [e, c]
/-- the step of growing -/
def grwP (B : Bd) (x : Int64) (p : Nat) : Prop := mb x p = true ∨ ∃ u d, mb x u = true ∧ nbr B u d = some p
def grwL (B : Bd) (x : Int64) : Int64 := ((((x ||| ((x &&& (colG (bW B) (bH B) (bW B - 1) (bH B) ^^^ (-1))) <<< ((nI 1).toInt64 &&& 63))) ||| ((x &&& (colG (bW B) (bH B) 0 (bH B) ^^^ (-1))) >>> ((nI 1).toInt64 &&& 63))) ||| (x <<< ((nI (bW B)).toInt64 &&& 63))) ||| (x >>> ((nI (bW B)).toInt64 &&& 63))) &&& plcL (bN B)
theorem mb_grw {B : Bd} (hB : bOk B) {x : Int64} (hx : ∀ p, mb x p = true → p < bN B) {p : Nat} (hp : p < 64) : mb (grwL B x) p = true ↔ p < bN B ∧ grwP B x p := by
  obtain ⟨w1, w2, w3, w4, hN, -⟩ := hB
  have x63 : mb x 63 = false := by
    cases z : mb x 63 with
    | false => rfl
    | true => have := hx 63 z; omega
  have y63 : ∀ c, mb (x &&& c) 63 = false := fun c => by rw [mb_and, x63]; rfl
  unfold grwL
  rw [mb_and, mb_or, mb_or, mb_or, mb_or, mb_plcL (by omega) hp, mb_shl _ (by omega) hp, mb_shl _ (by omega) hp, mb_shrz _ (by omega) hp x63, mb_shrz _ (by omega) hp (y63 _)]
  rw [Bool.and_eq_true, decide_eq_true_eq, and_comm]
  refine and_congr_right (fun hpN => ?_)
  have hxy := bOk_xy hpN
  have dm := Nat.div_add_mod p (bW B)
  unfold grwP
  simp only [Bool.or_eq_true, Bool.and_eq_true, decide_eq_true_eq]
  constructor
  · rintro ((((h | ⟨h1, h2⟩) | h) | ⟨h1, h2⟩) | h)
    · exact Or.inl h
    · rw [mb_and, Bool.and_eq_true] at h2
      have hu := hx _ h2.1
      have c := h2.2
      rw [mb_not _ (by omega), mb_colp hN (by omega) hu] at c
      simp at c
      refine Or.inr ⟨p - 1, 0, h2.1, ?_⟩
      have hm := Nat.mod_lt (p - 1) (show 0 < bW B by omega)
      rw [nbr_0, if_pos (by omega)]
      congr 1; omega
    · rw [mb_and, Bool.and_eq_true] at h
      have hu := hx _ h.1
      have c := h.2
      rw [mb_not _ (by omega), mb_colp hN (by omega) hu] at c
      simp at c
      refine Or.inr ⟨p + 1, 1, h.1, ?_⟩
      rw [nbr_1, if_pos (by omega)]
      congr 1
    · refine Or.inr ⟨p - bW B, 2, h2, ?_⟩
      have hu := hx _ h2
      have e : (p - bW B) / bW B + 1 = p / bW B := by
        have := Nat.add_div_right (p - bW B) (show 0 < bW B by omega)
        rw [show p - bW B + bW B = p from by omega] at this
        omega
      rw [nbr_2, if_pos (by omega)]
      congr 1; omega
    · refine Or.inr ⟨p + bW B, 3, h, ?_⟩
      have e : (p + bW B) / bW B = p / bW B + 1 := Nat.add_div_right p (show 0 < bW B by omega)
      rw [nbr_3, if_pos (show 0 < (p + bW B) / bW B by rw [e]; exact Nat.succ_pos _)]
      congr 1; omega
  · rintro (h | ⟨u, d, hu, hn⟩)
    · exact Or.inl (Or.inl (Or.inl (Or.inl h)))
    · have hul := hx u hu
      have hd := nbr_d hn
      have d4 : d = 0 ∨ d = 1 ∨ d = 2 ∨ d = 3 := by omega
      rcases d4 with e | e | e | e <;> subst e
      · rw [nbr_0] at hn
        split at hn
        · rename_i c
          cases hn
          refine Or.inl (Or.inl (Or.inl (Or.inr ⟨by omega, ?_⟩)))
          rw [show u + 1 - 1 = u from by omega, mb_and, Bool.and_eq_true, mb_not _ (by omega), mb_colp hN (by omega) hul]
          refine ⟨hu, ?_⟩
          simp; omega
        · cases hn
      · rw [nbr_1] at hn
        split at hn
        · rename_i c
          cases hn
          have u0 : u ≠ 0 := fun z => by subst z; simp at c
          refine Or.inl (Or.inl (Or.inr ?_))
          rw [show u - 1 + 1 = u from by omega, mb_and, Bool.and_eq_true, mb_not _ (by omega), mb_colp hN (by omega) hul]
          refine ⟨hu, ?_⟩
          simp; omega
        · cases hn
      · rw [nbr_2] at hn
        split at hn
        · cases hn
          refine Or.inl (Or.inr ⟨by omega, ?_⟩)
          rw [show u + bW B - bW B = u from by omega]; exact hu
        · cases hn
      · rw [nbr_3] at hn
        split at hn
        · rename_i c
          cases hn
          have : bW B ≤ u := by
            have e := Nat.div_add_mod u (bW B)
            have : bW B * 1 ≤ bW B * (u / bW B) := Nat.mul_le_mul_left _ (by omega)
            omega
          refine Or.inr ?_
          rw [show u - bW B + bW B = u from by omega]; exact hu
        · cases hn
section
variable {Q : Option Value → xw → Prop} {w : xw} {B : Bd} {s : GS} {a b : Nat}
theorem x_column (hB : bOk B) (hE : XE B b w) {x : Nat} (hx : x < bW B) (q : Q (some (.long (colG (bW B) (bH B) x (bH B)))) w) : V_X1_column [.ref b, .int (nI x)] w Q := by
  obtain ⟨w1, w2, w3, w4, hN, -⟩ := hB
  refine e_X1_column (r_X1_column_0 ?_)
  refine upTo (bH B) (fun _ (_ : Unit) => True)
    (fun y _ => ∀ {o3 : Option Value}, T_X1_column Q 5 [some (.ref b), some (.int (nI x)), some (.long (colG (bW B) (bH B) x y)), o3, some (.int (nI y))] [] w) ?_ ?_ 0 () (by omega) trivial
  · intro _ _ o3
    refine r_X1_column_5 ?_
    (try simp +decide (disch := omega) only [n_lit2, n_add, n_mul, n_tn, n_inT, n_ltT, n_ltF, n_leT, n_leF, n_eqT, n_eqF, n_eqm, n_meq, n_div, n_rem, nb_0, nb_1, nr_b, true_and, and_true, eq_self, Decidable.not_not, not_false_eq_true, not_true_eq_false, false_implies, true_implies, implies_true, Option.toList_some, Option.toList_none, List.cons_append, List.nil_append, xS_uI, xS_uL, xR_uI, xR_uL, xL_uI, xI_uL, xN_uI, xN_uL, xB_uI, xB_uL, add_nz, ge_256, and_self, XE_bs hE, XE_h hE]); (try simp (disch := omega) only [lc_eq, lc_le, lc_lt, lc_ge, lc_gt, mb_t1, mb_t0, bI_0, bI_1, n_in, n_lt, n_le, n_eq, Bool.not_eq_false, Bool.not_eq_true, Decidable.not_not, true_and, XE_bs hE, XE_h hE])
    exact q
  · intro y _ hy _ next o3
    refine r_X1_column_5 ?_
    (try simp +decide (disch := omega) only [n_lit2, n_add, n_mul, n_tn, n_inT, n_ltT, n_ltF, n_leT, n_leF, n_eqT, n_eqF, n_eqm, n_meq, n_div, n_rem, nb_0, nb_1, nr_b, true_and, and_true, eq_self, Decidable.not_not, not_false_eq_true, not_true_eq_false, false_implies, true_implies, implies_true, Option.toList_some, Option.toList_none, List.cons_append, List.nil_append, xS_uI, xS_uL, xR_uI, xR_uL, xL_uI, xI_uL, xN_uI, xN_uL, xB_uI, xB_uL, add_nz, ge_256, and_self, XE_bs hE, XE_h hE, XE_w hE]); (try simp (disch := omega) only [lc_eq, lc_le, lc_lt, lc_ge, lc_gt, mb_t1, mb_t0, bI_0, bI_1, n_in, n_lt, n_le, n_eq, Bool.not_eq_false, Bool.not_eq_true, Decidable.not_not, true_and, XE_bs hE, XE_h hE, XE_w hE])
    exact next () trivial
theorem x_grown (hB : bOk B) (hE : XE B b w) (x : Int64) (q : Q (some (.long (grwL B x))) w) : V_X1_grown [.ref b, .long x] w Q := by
  obtain ⟨w1, w2, w3, w4, hN, -⟩ := id hB
  have ew : nI (bW B) - 1 = nI (bW B - 1) := n_sub (b := 1) (by omega)
  refine e_X1_grown (r_X1_grown_0 ⟨XE_bs hE, x_places hE (r_X1_grown_5 ⟨XE_bs hE, XE_bs hE, ?_⟩)⟩)
  rw [XE_w hE, ew]
  refine x_column hB hE (by omega) (r_X1_grown_21 ⟨XE_bs hE, x_column (x := 0) hB hE (by omega) (r_X1_grown_35 ⟨XE_bs hE, XE_bs hE, rfl, ?_⟩)⟩)
  rw [XE_w hE]
  exact q
end
/-- the lowest place of a set -/
theorem mb_lowb {s : Int64} {k : Nat} (hk : k < 64) (h1 : mb s k = true) (h2 : ∀ j, j < k → mb s j = false) {p : Nat} (hp : p < 64) : mb (s &&& (-s)) p = decide (p = k) := by
  have e : -s = (s - 1) ^^^ (-1) := by
    apply Int64.toBitVec_inj.mp
    rw [Int64.toBitVec_neg, Int64.toBitVec_xor, Int64.toBitVec_sub]
    have m : (-1 : Int64).toBitVec = BitVec.allOnes 64 := by decide
    have o : (1 : Int64).toBitVec = 1#64 := by decide
    rw [m, o, BitVec.xor_allOnes, BitVec.not_sub_one_eq_not_add_one]
    rw [BitVec.neg_eq_not_add]
  rw [e, mb_and, mb_not _ hp, mb_sub1 h1 h2]
  by_cases c : p < k
  · rw [h2 p c]; simp; omega
  · by_cases c2 : p = k
    · subst c2; simp [h1]
    · simp [c, c2]
theorem ctT_mono {s t : Int64} (h : ∀ p, mb s p = true → mb t p = true) (n : Nat) : ctT s n ≤ ctT t n := by
  induction n with
  | zero => exact Nat.le_refl _
  | succ n ih =>
    unfold ctT
    cases z : mb s n with
    | false => simp; omega
    | true => rw [h n z]; simp; exact ih
theorem ctT_lt {s t : Int64} (h : ∀ p, mb s p = true → mb t p = true) {u n : Nat} (hu : u < n) (h1 : mb s u = false) (h2 : mb t u = true) : ctT s n < ctT t n := by
  induction n with
  | zero => omega
  | succ n ih =>
    unfold ctT
    by_cases e : u = n
    · subst e
      rw [h1, h2]
      have := ctT_mono h u
      simp; omega
    · have := ih (by omega)
      cases z : mb s n with
      | false => simp; omega
      | true => rw [h n z]; simp; exact this
section
variable {Q : Option Value → xw → Prop} {w : xw} {B : Bd} {s : GS} {a b : Nat}
/-- one part grows until it is whole -/
theorem x_grows (hB : bOk B) (hE : XE B b w) (hP : XP a w) {e free : Int64} {n k r : Nat} (hk : k < bN B) (hfr : ∀ p, p < 64 → (mb free p = true ↔ p < bN B ∧ mb (seenL B e k) p = false)) (hks : mb free k = true)
    (q : ∀ {o1 o5 o7 o9 : Option Value}, T_X5_parts Q 43 [some (.ref a), o1, some (.ref r), some (.int (nI n)), some (.long free), o5, some (.long (cpL B e k)), o7, some (.long (cpL B e k)), o9] [] w) :
    ∀ {o1 o5 o7 o9 : Option Value}, T_X5_parts Q 43 [some (.ref a), o1, some (.ref r), some (.int (nI n)), some (.long free), o5, some (.long (b1 k)), o7, some (.long 0), o9] [] w := by
  have hN := hB.2.2.2.2.1
  have hns : mb (seenL B e k) k = false := ((hfr k (by omega)).mp hks).2
  have off := fun {u : Nat} (hu : Rc B e k u) => cpL_off hN hk hns hu
  have main : ∀ (f : Nat) (part was : Int64), 64 - ctT part 64 ≤ f → mb part k = true → (∀ p, p < 64 → mb part p = true → Rc B e k p) → (part = was → part = cpL B e k) →
      ∀ {o1 o5 o7 o9 : Option Value}, T_X5_parts Q 43 [some (.ref a), o1, some (.ref r), some (.int (nI n)), some (.long free), o5, some (.long part), o7, some (.long was), o9] [] w := by
    intro f
    induction f with
    | zero =>
      intro part was hf h1 h2 h3 o1 o5 o7 o9
      by_cases e9 : part = was
      · have e8 := h3 e9
        rw [← e9, e8]; exact q
      · have c64 := ctT_le part 64
        exact absurd (show mb part 63 = true by
          have key : ∀ n, n ≤ 64 → ctT part n = n → ∀ p, p < n → mb part p = true := by
            intro n
            induction n with
            | zero => intro _ _ p hp; omega
            | succ n ih =>
              intro hn hc p hp
              have l := ctT_le part n
              unfold ctT at hc
              cases z : mb part n with
              | true =>
                rw [z] at hc
                simp at hc
                by_cases ep : p = n
                · rw [ep]; exact z
                · exact ih (by omega) hc p (by omega)
              | false => rw [z] at hc; simp at hc; omega
          exact key 64 (by omega) (by omega) 63 (by omega)) (by
          intro z
          have := Rc_lt hk (h2 63 (by omega) z); omega)
    | succ f ih =>
      intro part was hf h1 h2 h3 o1 o5 o7 o9
      by_cases e9 : part = was
      · have e8 := h3 e9
        rw [← e9, e8]; exact q
      · refine r_X5_parts_43 ⟨fun c => ?_, fun c => ?_⟩
        · rw [lg_cmp_eq] at c; exact absurd c e9
        rw [XP_r13 hP, XE_b hE]
        refine ⟨XP_s hP, by omega, XE_s hE, hE.2.1.1.1, XE_bs hE, x_grown hB hE part (r_X5_parts_67 ?_)⟩
        have pl : ∀ p, mb part p = true → p < bN B := fun p hp => by
          have hp64 : p < 64 := by
            rcases Nat.lt_or_ge p 64 with h | h
            · exact h
            · rw [mb_big part h] at hp; cases hp
          exact Rc_lt hk (h2 p hp64 hp)
        have sub : ∀ p, mb part p = true → mb (grwL B part &&& free) p = true := fun p hp => by
          have hl := pl p hp
          rw [mb_and, Bool.and_eq_true]
          exact ⟨(mb_grw hB pl (by omega)).mpr ⟨hl, Or.inl hp⟩, (hfr p (by omega)).mpr ⟨hl, off (h2 p (by omega) hp)⟩⟩
        have nw : ∀ p, p < 64 → mb (grwL B part &&& free) p = true → Rc B e k p := fun p hp h => by
          rw [mb_and, Bool.and_eq_true] at h
          obtain ⟨g1, g2⟩ := (mb_grw hB pl hp).mp h.1
          rcases g2 with g2 | ⟨u, d, g3, g4⟩
          · exact h2 p hp g2
          · have hu := pl u g3
            refine Rc_step (h2 u (by omega) g3) g4 ?_
            have := ((hfr p hp).mp h.2).2
            cases z : mb e p with
            | false => rfl
            | true => rw [seenL_e z] at this; cases this
        by_cases same : grwL B part &&& free = part
        · have cl : part = cpL B e k := by
            refine eq_cpL (fun p hp => ⟨h2 p hp, fun hr => ?_⟩)
            refine (hr (fun u => mb part u = true ∧ u < bN B) ⟨h1, hk⟩ (fun u v d hu hn hv => ?_)).1
            have hv1 := nbr_lt hu.2 hn
            refine ⟨?_, hv1⟩
            rw [← same, mb_and, Bool.and_eq_true]
            exact ⟨(mb_grw hB pl (by omega)).mpr ⟨hv1, Or.inr ⟨u, d, hu.1, hn⟩⟩, (hfr v (by omega)).mpr ⟨hv1, off (Rc_step (h2 u (by omega) hu.1) hn hv)⟩⟩
          rw [same, cl]; exact q
        · have gt : ctT part 64 < ctT (grwL B part &&& free) 64 := by
            have ex : ∃ u, u < 64 ∧ mb part u ≠ mb (grwL B part &&& free) u := by
              apply Classical.byContradiction
              intro hn
              apply same
              apply mb_ext
              intro p hp
              apply Classical.byContradiction
              intro hne
              exact hn ⟨p, hp, fun z => hne z.symm⟩
            obtain ⟨u, hu, hne⟩ := ex
            have h5 : mb part u = false := by
              cases z : mb part u with
              | false => rfl
              | true => rw [z, sub u z] at hne; exact absurd rfl hne
            have h6 : mb (grwL B part &&& free) u = true := by
              cases z : mb (grwL B part &&& free) u with
              | true => rfl
              | false => rw [h5, z] at hne; exact absurd rfl hne
            exact ctT_lt sub hu h5 h6
          exact ih _ part (by omega) (sub k h1) nw (fun z => absurd z same)
  intro o1 o5 o7 o9
  refine main 64 (b1 k) 0 (by omega) (by rw [mb_b1 (by omega) (by omega)]; simp) (fun p hp h => ?_) (fun z => ?_)
  · rw [mb_b1 (by omega) hp] at h
    have := of_decide_eq_true h
    subst this; exact Rc_refl B e p
  · have : mb (b1 k) k = true := by rw [mb_b1 (by omega) (by omega)]; simp
    rw [z, mb_0] at this; cases this
theorem seenL_skip {B : Bd} {e : Int64} {k c : Nat} (hkc : k ≤ c) (h : ∀ j, k ≤ j → j < c → mb (seenL B e k) j = true) : seenL B e c = seenL B e k ∧ ptsL B e c = ptsL B e k := by
  induction c with
  | zero => rw [show k = 0 from by omega]; exact ⟨rfl, rfl⟩
  | succ c ih =>
    by_cases z : k = c + 1
    · rw [z]; exact ⟨rfl, rfl⟩
    · obtain ⟨i1, i2⟩ := ih (by omega) (fun j h1 h2 => h j h1 (by omega))
      have hc : mb (seenL B e c) c = true := by rw [i1]; exact h c (by omega) (by omega)
      constructor
      · conv => lhs; unfold seenL
        rw [if_pos hc, i1]
      · conv => lhs; unfold ptsL
        rw [if_pos hc, i2]
theorem seenL_mono {B : Bd} {e : Int64} {n m p : Nat} (h : n ≤ m) (hp : mb (seenL B e n) p = true) : mb (seenL B e m) p = true := by
  induction m with
  | zero => rw [show n = 0 from by omega] at hp; exact hp
  | succ m ih =>
    by_cases z : n = m + 1
    · rw [← z]; exact hp
    · have := ih (by omega)
      unfold seenL
      split
      · exact this
      · rw [mb_or, this]; rfl
theorem seenL_past {B : Bd} {e : Int64} {p k : Nat} (hN : bN B ≤ 36) (hpk : p < k) (hk : k ≤ bN B) : mb (seenL B e k) p = true := by
  refine seenL_mono (show p + 1 ≤ k by omega) ?_
  unfold seenL
  split
  · rename_i c; exact c
  · rw [mb_or, (mb_cpL B e p (q := p) (by omega)).mpr (Rc_refl B e p)]; simp
theorem rim_iff {B : Bd} (hN : bN B ≤ 36) {x : Int64} : (x &&& rimL B = 0) ↔ rimG B x = false := by
  unfold rimG rimL
  rw [mb_zero, List.any_eq_false]
  constructor
  · intro h p hp
    have hp := List.mem_range.mp hp
    have := h p (by omega)
    rw [mb_and, mb_bldL _ (by omega) (by omega)] at this
    simp [hp] at this
    simp; exact this
  · intro h p hp
    rw [mb_and, mb_bldL _ (by omega) hp]
    by_cases c : p < bN B
    · have := h p (List.mem_range.mpr c)
      simp at this
      cases z : mb x p with
      | false => rfl
      | true => simp [c, this z]
    · simp [c]
set_option maxHeartbeats 2000000 in
theorem x_parts (hB : bOk B ∨ bN B = 0) (hE : XE B b w) (hP : XP a w) (hG : XG B s a w) (hs : sOk B (gS s)) (h0 : ∀ p, bN B ≤ p → gS s p = 0) {side r : Nat} (h2 : side < 2) (hr : 345 ≤ r ∧ r ≤ 793) (hra : r = a + 6 ∨ r = a + 7 ∨ r < a ∨ a + 7 < r) (hrs : xS w r = (52, 16))
    (q : ∀ w', (∀ i, i ≠ r → i ≠ a → xI w' i = xI w i ∧ xL w' i = xL w i) → xfr 345 793 w w' → XG B s a w' → xI w' a 10 = nI (linesG B (gS s) side) → lsL (partsG B (gS s) side) (xL w' r) → (r ≠ a + 6 → xL w' (a + 6) = xL w (a + 6)) → Q (some (.int (nI (partsG B (gS s) side).length))) w') : V_X5_parts [.ref a, .int (nI side), .ref r] w Q := by
  have ha := XP_ge hP
  have hN : bN B ≤ 36 := bN36 hB
  refine e_X5_parts (r_X5_parts_0 ?_)
  rw [XP_r13 hP]
  refine ⟨XP_s hP, by omega, XE_s hE, x_placeMany hE (r_X5_parts_10 ⟨XP_s hP, x_edge hB hE hP hG hs h0 h2 (fun w0 f0 g0 n0 => r_X5_parts_18 ?_)⟩)⟩
  have hE0 := XE_fr f0 (by omega) hE
  have hP0 := XP_fr f0 hP
  generalize he : edgeL B (gS s) side = e at *
  have pe : partsG B (gS s) side = ptsL B e (bN B) := by unfold partsG; rw [he]
  rw [pe] at q
  have main : ∀ (f k : Nat) (free : Int64) (w1 : xw), k + f = bN B → (∀ p, p < 64 → (mb free p = true ↔ p < bN B ∧ mb (seenL B e k) p = false)) → xfr r r w0 w1 → xI w1 r = xI w0 r → lsL (ptsL B e k) (xL w1 r) →
      ∀ {o1 o5 o6 o7 o8 o9 : Option Value}, T_X5_parts Q 25 [some (.ref a), o1, some (.ref r), some (.int (nI (ptsL B e k).length)), some (.long free), o5, o6, o7, o8, o9] [] w1 := by
    intro f
    induction f using Nat.strongRecOn with
    | _ f ih =>
      intro k free w1 hf hfr f1 fI hl o1 o5 o6 o7 o8 o9
      refine r_X5_parts_25 ⟨fun c => ⟨trivial, ?_⟩, fun c => ?_⟩
      · rw [lg_cmp_eq, mb_zero] at c
        have hz : ∀ j, k ≤ j → j < bN B → mb (seenL B e k) j = true := fun j h1 h2 => by
          have c1 := c j (by omega)
          cases z : mb (seenL B e k) j with
          | true => rfl
          | false => rw [(hfr j (by omega)).mpr ⟨h2, z⟩] at c1; cases c1
        obtain ⟨s1, s2⟩ := seenL_skip (show k ≤ bN B by omega) hz
        rw [← s2] at hl ⊢
        have fw : xfr 345 793 w w1 := xfr_trans f0 f1 (by omega) (by omega)
        refine q w1 (fun i h1 h2 => ?_) fw ?_ ?_ hl (fun h6 => ?_)
        · have a1 := f1.2.2.2 i (by omega)
          have a2 := f0.2.2.2 i (by omega)
          exact ⟨a1.1.trans a2.1, a1.2.trans a2.2⟩
        · rcases hra with h | h | h | h
          · obtain ⟨g1, g2, g3, g4, g5, g6, g7, g8, g9, g10⟩ := g0
            have e1 := fun i (hi : i ≠ a + 6) => f1.2.2.2 i (by omega)
            exact ⟨by rw [(e1 a (by omega)).1]; exact g1, by rw [(e1 a (by omega)).1]; exact g2, by rw [(e1 _ (by omega)).2]; exact g3, by rw [(e1 _ (by omega)).2]; exact g4, by rw [(e1 _ (by omega)).2]; exact g5, by rw [(e1 _ (by omega)).1]; exact g6, by rw [(e1 _ (by omega)).1]; exact g7, by rw [(e1 _ (by omega)).2]; exact g8, by rw [(e1 _ (by omega)).2]; exact g9, by rw [(e1 _ (by omega)).2]; exact g10⟩
          · obtain ⟨g1, g2, g3, g4, g5, g6, g7, g8, g9, g10⟩ := g0
            have e1 := fun i (hi : i ≠ a + 7) => f1.2.2.2 i (by omega)
            exact ⟨by rw [(e1 a (by omega)).1]; exact g1, by rw [(e1 a (by omega)).1]; exact g2, by rw [(e1 _ (by omega)).2]; exact g3, by rw [(e1 _ (by omega)).2]; exact g4, by rw [(e1 _ (by omega)).2]; exact g5, by rw [(e1 _ (by omega)).1]; exact g6, by rw [(e1 _ (by omega)).1]; exact g7, by rw [(e1 _ (by omega)).2]; exact g8, by rw [(e1 _ (by omega)).2]; exact g9, by rw [(e1 _ (by omega)).2]; exact g10⟩
          · exact XG_fr f1 (by omega) g0
          · exact XG_fr f1 (by omega) g0
        · rw [(f1.2.2.2 a (by omega)).1]; exact n0
        · rw [(f1.2.2.2 (a + 6) (by omega)).2, (f0.2.2.2 (a + 6) (by omega)).2]
      · rw [lg_cmp_eq] at c
        obtain ⟨u, hu1, hu2, hu3⟩ := lowB c
        obtain ⟨hu4, hu5⟩ := (hfr u hu1).mp hu2
        have hB1 : bOk B := by
          rcases hB with h | h
          · exact h
          · omega
        have hku : k ≤ u := by
          rcases Nat.lt_or_ge u k with h | h
          · exact absurd (seenL_past hN h (by omega) (e := e)) (by rw [hu5]; simp)
          · exact h
        have hz : ∀ j, k ≤ j → j < u → mb (seenL B e k) j = true := fun j h1 h2 => by
          have c1 := hu3 j h2
          cases z : mb (seenL B e k) j with
          | true => rfl
          | false => rw [(hfr j (by omega)).mpr ⟨by omega, z⟩] at c1; cases c1
        obtain ⟨s1, s2⟩ := seenL_skip hku hz
        have eb : free &&& (-free) = b1 u := mb_ext (fun p hp => by rw [mb_lowb hu1 hu2 hu3 hp, mb_b1 hu1 hp])
        rw [eb]
        have hE1 := XE_fr f1 (by omega) hE0
        have hP1 := XP_fr f1 hP0
        have hfr1 : ∀ p, p < 64 → (mb free p = true ↔ p < bN B ∧ mb (seenL B e u) p = false) := fun p hp => by rw [s1]; exact hfr p hp
        have hu5' : mb (seenL B e u) u = false := by rw [s1]; exact hu5
        refine x_grows hB1 hE1 hP1 hu4 hfr1 hu2 (fun {o1 o5 o7 o9} => ?_)
        have sE : seenL B e (u + 1) = seenL B e u ||| cpL B e u := by
          conv => lhs; unfold seenL
          rw [if_neg (by rw [hu5']; simp)]
        have fr2 : ∀ p, p < 64 → (mb (free &&& (cpL B e u ^^^ (-1))) p = true ↔ p < bN B ∧ mb (seenL B e (u + 1)) p = false) := fun p hp => by
          rw [mb_and, Bool.and_eq_true, hfr1 p hp, mb_not _ hp, sE, mb_or]
          constructor
          · rintro ⟨⟨h1, h2⟩, h3⟩
            refine ⟨h1, ?_⟩
            rw [h2]; simpa using h3
          · rintro ⟨h1, h2⟩
            simp at h2
            exact ⟨⟨h1, h2.1⟩, by simp [h2.2]⟩
        refine r_X5_parts_43 ⟨fun _ => ?_, fun c2 => absurd ((lg_cmp_eq _ _).mpr rfl) c2⟩
        rw [XP_r13 hP1, XE_b hE1, XE_rim hE1]
        refine ⟨XP_s hP1, by omega, XE_s hE1, hE1.2.1.1.1, XE_bs hE1, fun c2 => ?_, fun c2 => ?_⟩
        · rw [lg_cmp_eq, rim_iff hN] at c2
          have c3 : rimG B (cpL B e u) = true := by
            cases z : rimG B (cpL B e u) with
            | true => rfl
            | false => exact absurd z c2
          have pE : ptsL B e (u + 1) = ptsL B e k := by
            conv => lhs; unfold ptsL
            rw [if_neg (by rw [hu5']; simp), if_pos c3, s2]
          rw [← pE]
          exact ih (bN B - (u + 1)) (by omega) (u + 1) _ w1 (by omega) fr2 f1 fI (by rw [pE]; exact hl)
        · rw [lg_cmp_eq, Decidable.not_not, rim_iff hN] at c2
          have pE : ptsL B e (u + 1) = ptsL B e k ++ [cpL B e u] := by
            conv => lhs; unfold ptsL
            rw [if_neg (by rw [hu5']; simp), if_neg (by rw [c2]; simp), s2]
          have hlen : (ptsL B e (u + 1)).length ≤ 16 := Nat.le_trans (ptsL_len B hB1 e (p := u + 1) (by omega)) (Nat.le_trans (inn_mono (bW B) (bH B) (show u + 1 ≤ bN B by omega)) (inn_le hB1.1 hB1.2.1 hB1.2.2.1 hB1.2.2.2.1 hB1.2.2.2.2.1))
          rw [pE, List.length_append, List.length_singleton] at hlen
          have hrs1 : xS w1 r = (52, 16) := by rw [f1.2.1, f0.2.1]; exact hrs
          rw [hrs1, n_tn (by omega)]
          have en : nI (ptsL B e k).length + 1 = nI (ptsL B e (u + 1)).length := by
            rw [pE, List.length_append, List.length_singleton]; exact n_add _ 1
          rw [en]
          refine ⟨rfl, by omega, (n_in (by omega)).mpr (by omega), ?_⟩
          refine ih (bN B - (u + 1)) (by omega) (u + 1) _ _ (by omega) fr2 (xfr_tL f1 (by omega)) fI ?_
          rw [pE]
          refine lsL_app hl _ _ (fun j hj => ?_) ?_
          · rw [x_uL, if_neg (by omega)]
          · rw [x_uL, if_pos ⟨rfl, rfl⟩]
  refine main (bN B) 0 _ w0 (by omega) (fun p hp => ?_) (xfr_refl _ _ _) rfl (lsL_nil _)
  have : (1 : Int64) <<< (Int32.toInt64 (nI (bN B)) &&& 63) - 1 = plcL (bN B) := rfl
  rw [this, mb_and, mb_not _ hp, mb_plcL (by omega) hp]
  show _ ↔ p < bN B ∧ mb e p = false
  simp
end
