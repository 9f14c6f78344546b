/-! loops that count up; lowest bits; how many bits -/
theorem upTo {α : Type} (n : Nat) (I : Nat → α → Prop) (T : Nat → α → Prop) (he : ∀ a, I n a → T n a) (hs : ∀ k a, k < n → I k a → (∀ a', I (k + 1) a' → T (k + 1) a') → T k a) (k : Nat) (a : α) (hk : k ≤ n) (h : I k a) : T k a := by
  generalize hf : n - k = f
  induction f generalizing k a with
  | zero =>
    have e : k = n := by omega
    subst e
    exact he a h
  | succ f ih => exact hs k a (by omega) h (fun a' h' => ih (k + 1) a' (by omega) h' (by omega))
theorem n_inT {a n : Nat} (h : a < 2147483648) (h2 : a < n) : vp_in (nI a) n = True := eq_true ((n_in h).mpr h2)
theorem n_ltT {a b : Nat} (h1 : b < 2147483648) (h : a < b) : (nI a < nI b) = True := eq_true ((n_lt (by omega) h1).mpr h)
theorem n_ltF {a b : Nat} (h1 : a < 2147483648) (h : b ≤ a) : (nI a < nI b) = False := eq_false (fun z => by have := (n_lt h1 (by omega)).mp z; omega)
theorem n_leT {a b : Nat} (h1 : b < 2147483648) (h : a ≤ b) : (nI a ≤ nI b) = True := eq_true ((n_le (by omega) h1).mpr h)
theorem n_leF {a b : Nat} (h1 : a < 2147483648) (h : b < a) : (nI a ≤ nI b) = False := eq_false (fun z => by have := (n_le h1 (by omega)).mp z; omega)
theorem n_eqT {a b : Nat} (h : a = b) : (nI a = nI b) = True := eq_true (by rw [h])
theorem n_eqF {a b : Nat} (h1 : a < 2147483648) (h2 : b < 2147483648) (h : a ≠ b) : (nI a = nI b) = False := eq_false (fun z => h ((n_eq h1 h2).mp z))
theorem n_eqm {a : Nat} (h : a < 2147483648) : (nI a = -nI 1) = False := eq_false (fun z => by have := (n_eqg h (b := 1) (by omega)).mp z; omega)
theorem n_meq {a : Nat} (h : a < 2147483648) : (-nI 1 = nI a) = False := eq_false (fun z => by have := (n_geq h (b := 1) (by omega)).mp z; omega)
theorem n_lit2 (n : Nat) : (@OfNat.ofNat Int32 n _) = nI (@OfNat.ofNat Nat n _) := rfl
theorem nb_0 : narrow .boolean (.int (nI 0)) = .int (nI 0) := rfl
theorem nb_1 : narrow .boolean (.int (nI 1)) = .int (nI 1) := rfl
theorem mb_nat (s : Int64) (p : Nat) : mb s p = s.toBitVec.toNat.testBit p := rfl
/-- the first place of a row of bits -/
theorem lowN {f : Nat → Bool} (n : Nat) : (∃ k, k < n ∧ f k = true ∧ ∀ j, j < k → f j = false) ∨ ∀ j, j < n → f j = false := by
  induction n with
  | zero => exact Or.inr (fun j hj => by omega)
  | succ n ih =>
    rcases ih with ⟨k, h1, h2, h3⟩ | h1
    · exact Or.inl ⟨k, by omega, h2, h3⟩
    · cases c : f n with
      | true => exact Or.inl ⟨n, by omega, c, h1⟩
      | false =>
        refine Or.inr (fun j hj => ?_)
        by_cases e : j = n
        · subst e; exact c
        · exact h1 j (by omega)
theorem lowB {s : Int64} (h : s ≠ 0) : ∃ k, k < 64 ∧ mb s k = true ∧ ∀ j, j < k → mb s j = false := by
  rcases lowN (f := mb s) 64 with g | g
  · exact g
  · exact absurd (mb_ext (fun p hp => by rw [g p hp, mb_0])) h
theorem nat_sub1 {n k : Nat} (h1 : n.testBit k = true) (h2 : ∀ j, j < k → n.testBit j = false) (p : Nat) : (n - 1).testBit p = if p < k then true else if p = k then false else n.testBit p := by
  have m0 : n % 2 ^ k = 0 := by
    apply Nat.eq_of_testBit_eq
    intro j
    rw [Nat.testBit_mod_two_pow, Nat.zero_testBit]
    by_cases c : j < k
    · simp [c, h2 j c]
    · simp [c]
  have q0 : (n / 2 ^ k) % 2 = 1 := by
    rw [Nat.mod_two_eq_one_iff_testBit_zero, Nat.testBit_div_two_pow, Nat.zero_add]; exact h1
  have e := Nat.div_add_mod n (2 ^ k)
  rw [m0, Nat.add_zero] at e
  generalize hq : n / 2 ^ k = q at *
  have pk : 0 < 2 ^ k := Nat.two_pow_pos k
  have e2 : n - 1 = 2 ^ k * (q - 1) + (2 ^ k - 1) := by
    have : 2 ^ k * q = 2 ^ k * (q - 1) + 2 ^ k := by
      conv => lhs; rw [show q = (q - 1) + 1 from by omega, Nat.mul_add, Nat.mul_one]
    omega
  rw [e2, Nat.testBit_two_pow_mul_add _ (by omega), Nat.testBit_two_pow_sub_one]
  by_cases c : p < k
  · simp [c]
  · rw [if_neg c, if_neg c]
    by_cases c2 : p = k
    · subst c2
      rw [if_pos rfl, Nat.sub_self, Nat.testBit_zero]
      simp; omega
    · rw [if_neg c2]
      have e3 : n.testBit p = q.testBit (p - k) := by
        rw [← hq, Nat.testBit_div_two_pow]; congr 1; omega
      rw [e3, show p - k = (p - k - 1) + 1 from by omega, Nat.testBit_add_one, Nat.testBit_add_one]
      congr 1; omega
theorem mb_sub1 {s : Int64} {k : Nat} (h1 : mb s k = true) (h2 : ∀ j, j < k → mb s j = false) (p : Nat) : mb (s - 1) p = if p < k then true else if p = k then false else mb s p := by
  have hn := s.toBitVec.isLt
  have e1 : (s - 1).toBitVec.toNat = s.toBitVec.toNat - 1 := by
    have hpos : s.toBitVec.toNat ≠ 0 := fun z => by
      rw [mb_nat, z, Nat.zero_testBit] at h1; cases h1
    rw [Int64.toBitVec_sub, BitVec.toNat_sub]
    have : (1 : Int64).toBitVec.toNat = 1 := by decide
    rw [this]; omega
  rw [mb_nat, mb_nat, e1]
  exact nat_sub1 h1 h2 p
/-- a set without its lowest place -/
theorem mb_drop {s : Int64} {k : Nat} (h1 : mb s k = true) (h2 : ∀ j, j < k → mb s j = false) (p : Nat) : mb (s &&& (s - 1)) p = (mb s p && decide (p ≠ k)) := by
  rw [mb_and, mb_sub1 h1 h2]
  by_cases c : p < k
  · rw [h2 p c]; simp
  · by_cases c2 : p = k
    · simp [c2]
    · simp [c, c2]
abbrev cnt (s : Int64) : Nat := ctT s 64
theorem ctT_drop {s t : Int64} {k : Nat} (h1 : mb s k = true) (h : ∀ p, mb t p = (mb s p && decide (p ≠ k))) (n : Nat) (hn : k < n) : ctT t n + 1 = ctT s n := by
  induction n with
  | zero => omega
  | succ n ih =>
    unfold ctT
    by_cases c : k = n
    · subst c
      rw [h k, h1]
      have : ctT t k = ctT s k := ctT_same (fun p hp => by rw [h p]; have : p ≠ k := by omega
                                                           simp [this])
      simp [this]
    · have := ih (by omega)
      rw [h n]
      have c2 : n ≠ k := fun z => c z.symm
      simp only [c2, ne_eq, not_false_eq_true, decide_true, Bool.and_true]
      omega
theorem ctT_0 (n : Nat) : ctT 0 n = 0 := by
  induction n with
  | zero => rfl
  | succ n ih => unfold ctT; rw [ih, mb_0]; rfl
theorem cnt_drop {t : Int64} (c : t ≠ 0) : cnt (t &&& (t - 1)) + 1 = cnt t := by
  obtain ⟨k, k1, k2, k3⟩ := lowB c
  exact ctT_drop k2 (mb_drop k2 k3) 64 k1
theorem cnt_0 : cnt 0 = 0 := ctT_0 64
theorem cnt_le (s : Int64) : cnt s ≤ 64 := ctT_le s 64
theorem s_bits {Q : Option Value → mw → Prop} {M : mw} (s : Int64) (q : Q (some (.int (nI (cnt s)))) M) : V_bits [.long s] M Q := by
  have hc := cnt_le s
  have main : ∀ (f : Nat) (t : Int64) (n : Nat), cnt t = f → n + f = cnt s → ∀ {o0 o1 o4 : Option Value}, T_bits Q 4 [o0, o1, some (.int (nI n)), some (.long t), o4] [] M := by
    intro f
    induction f with
    | zero =>
      intro t n h1 h2 o0 o1 o4
      refine r_bits_4 ⟨fun c => ⟨trivial, ?_⟩, fun c => ?_⟩
      · have : n = cnt s := by omega
        rw [this]; exact q
      · rw [lg_cmp_eq] at c
        have := cnt_drop c
        omega
    | succ f ih =>
      intro t n h1 h2 o0 o1 o4
      refine r_bits_4 ⟨fun c => ?_, fun c => ?_⟩
      · rw [lg_cmp_eq] at c
        subst c
        rw [cnt_0] at h1; omega
      · rw [lg_cmp_eq] at c
        have := cnt_drop c
        have e : nI n + 1 = nI (n + 1) := n_add n 1
        rw [e]
        exact ih _ (n + 1) (by omega) (by omega)
  exact e_bits (r_bits_0 (main (cnt s) s 0 rfl (by omega)))
theorem s_todays {Q : Option Value → mw → Prop} {M : mw} {d : Nat} (h : M.1 56 108 = nI d) (hd : d < 2147483648) (q : Q (some (.int (nI (d % 2)))) M) : V_todays [.ref 0] M Q := by
  refine e_todays (r_todays_0 ?_)
  (try simp +decide (disch := omega) only [n_lit2, n_add, n_mul, n_tn, n_inT, n_ltT, n_ltF, n_leT, n_leF, n_eqT, n_eqF, n_eqm, n_meq, n_div, n_rem, nb_0, nb_1, nr_b, true_and, and_true, eq_self, Decidable.not_not, not_false_eq_true, not_true_eq_false, false_implies, true_implies, implies_true, Option.toList_some, Option.toList_none, List.cons_append, List.nil_append, h]); (try simp (disch := omega) only [lc_eq, lc_le, lc_lt, lc_ge, lc_gt, mb_t1, mb_t0, bI_0, bI_1, n_in, n_lt, n_le, n_eq, Bool.not_eq_false, Bool.not_eq_true, Decidable.not_not, true_and, h])
  exact q
