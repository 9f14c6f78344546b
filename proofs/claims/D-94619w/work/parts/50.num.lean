/-! numbers: nI (Nat to int), conditions of the regions -/
theorem n_lit (n : Nat) : (@OfNat.ofNat Int32 n _) = nI n := rfl
theorem n_add (a b : Nat) : nI a + nI b = nI (a + b) := by unfold nI; rw [← Int32.ofNat_add]
theorem n_mul (a b : Nat) : nI a * nI b = nI (a * b) := by unfold nI; rw [← Int32.ofNat_mul]
theorem n_T {a : Nat} (h : a < 2147483648) : (nI a).toInt = a := nI_toInt (by omega)
theorem n_sub {a b : Nat} (h : b ≤ a) : nI a - nI b = nI (a - b) := by
  have : nI a = nI (a - b) + nI b := by rw [n_add]; congr 1; omega
  rw [this, Int32.add_sub_cancel]
theorem n_subneg {a b : Nat} (h : b ≤ a) : nI a + -nI b = nI (a - b) := by rw [← Int32.sub_eq_add_neg]; exact n_sub h
theorem n_lt {a b : Nat} (h : a < 2147483648) (h2 : b < 2147483648) : nI a < nI b ↔ a < b := by
  rw [Int32.lt_iff_toInt_lt, n_T h, n_T h2]; omega
theorem n_le {a b : Nat} (h : a < 2147483648) (h2 : b < 2147483648) : nI a ≤ nI b ↔ a ≤ b := by
  rw [Int32.le_iff_toInt_le, n_T h, n_T h2]; omega
theorem n_eq {a b : Nat} (h : a < 2147483648) (h2 : b < 2147483648) : nI a = nI b ↔ a = b := by
  rw [← Int32.toInt_inj, n_T h, n_T h2]; omega
theorem n_ng {a : Nat} (h : a < 2147483648) : (-nI a).toInt = -(a : Int) := by
  rw [Int32.toInt_neg, n_T h]; exact Int.bmod_eq_of_le (by omega) (by omega)
theorem n_eqg {a b : Nat} (h : a < 2147483648) (h2 : b < 2147483648) : nI a = -nI b ↔ a = 0 ∧ b = 0 := by
  rw [← Int32.toInt_inj, n_T h, n_ng h2]; omega
theorem n_geq {a b : Nat} (h : a < 2147483648) (h2 : b < 2147483648) : -nI b = nI a ↔ a = 0 ∧ b = 0 := by
  rw [← Int32.toInt_inj, n_T h, n_ng h2]; omega
theorem n_ltg {a b : Nat} (h : a < 2147483648) (h2 : b < 2147483648) : nI a < -nI b ↔ False := by
  rw [Int32.lt_iff_toInt_lt, n_T h, n_ng h2]; exact ⟨fun _ => by omega, fun h => h.elim⟩
theorem n_gle {a b : Nat} (h : a < 2147483648) (h2 : b < 2147483648) : -nI b ≤ nI a ↔ True := by
  rw [Int32.le_iff_toInt_le, n_T h, n_ng h2]; constructor <;> intro _ <;> first | trivial | omega
theorem n_tn {a : Nat} (h : a < 2147483648) : Int32.toNatClampNeg (nI a) = a := by
  rw [Int32.toNatClampNeg, n_T h]; omega
theorem n_in {a n : Nat} (h : a < 2147483648) : vp_in (nI a) n ↔ a < n := by
  rw [vp_in_iff, n_T h]; omega
theorem n_div {a b : Nat} (h : a < 2147483648) (h2 : b < 2147483648) : nI a / nI b = nI (a / b) := by
  have h3 : a / b ≤ a := Nat.div_le_self a b
  generalize hq : a / b = q at h3
  rw [← Int32.toInt_inj, Int32.toInt_div, n_T h, n_T h2, n_T (by omega), ← Int.ofNat_tdiv, hq]
  exact Int.bmod_eq_of_le (by omega) (by omega)
theorem n_rem {a b : Nat} (h : a < 2147483648) (h2 : b < 2147483648) : bs_irem (nI a) (nI b) = nI (a % b) := by
  have h3 : a / b * b ≤ a := Nat.div_mul_le_self a b
  rw [bs_irem, n_div h h2, n_mul, n_sub h3]
  congr 1
  have := Nat.div_add_mod a b
  rw [Nat.mul_comm] at this
  omega
theorem lc_eq (a b : Int64) : lg_cmp a b = nI 0 ↔ a = b := lg_cmp_eq a b
theorem lc_le (a b : Int64) : lg_cmp a b ≤ nI 0 ↔ a ≤ b := lg_cmp_le a b
theorem lc_lt (a b : Int64) : lg_cmp a b < nI 0 ↔ a < b := lg_cmp_lt a b
theorem lc_ge (a b : Int64) : nI 0 ≤ lg_cmp a b ↔ b ≤ a := lg_cmp_ge a b
theorem lc_gt (a b : Int64) : nI 0 < lg_cmp a b ↔ b < a := lg_cmp_gt a b
/-! longs as sets of places -/
def mb (x : Int64) (p : Nat) : Bool := x.toBitVec.getLsbD p
theorem mb_ext {x y : Int64} (h : ∀ p, p < 64 → mb x p = mb y p) : x = y := by
  apply Int64.toBitVec_inj.mp
  apply BitVec.eq_of_getLsbD_eq
  exact fun i hi => h i hi
theorem mb_or (x y : Int64) (p : Nat) : mb (x ||| y) p = (mb x p || mb y p) := by simp [mb]
theorem mb_and (x y : Int64) (p : Nat) : mb (x &&& y) p = (mb x p && mb y p) := by simp [mb]
theorem mb_xor (x y : Int64) (p : Nat) : mb (x ^^^ y) p = (mb x p ^^ mb y p) := by simp [mb]
theorem mb_0 (p : Nat) : mb 0 p = false := by simp [mb]
theorem mb_big (x : Int64) {p : Nat} (h : 64 ≤ p) : mb x p = false := by simp [mb]; exact BitVec.getLsbD_of_ge _ _ h
theorem mb_m1 {p : Nat} (h : p < 64) : mb (-1) p = true := by
  have : ∀ p, p < 64 → mb (-1) p = true := by decide
  exact this p h
theorem mb_not (x : Int64) {p : Nat} (h : p < 64) : mb (x ^^^ (-1)) p = !mb x p := by rw [mb_xor, mb_m1 h]; cases mb x p <;> rfl
theorem mb_shm {k : Nat} (hk : k < 64) : (((nI k).toInt64 &&& 63).toBitVec.smod 64).toNat = k := by
  have : ∀ k, k < 64 → (((nI k).toInt64 &&& 63).toBitVec.smod 64).toNat = k := by decide
  exact this k hk
theorem mb_shl (x : Int64) {k p : Nat} (hk : k < 64) (hp : p < 64) : mb (x <<< ((nI k).toInt64 &&& 63)) p = (decide (k ≤ p) && mb x (p - k)) := by
  unfold mb
  rw [Int64.toBitVec_shiftLeft]
  rw [BitVec.shiftLeft_eq', mb_shm hk, BitVec.getLsbD_shiftLeft]
  by_cases h : p < k <;> simp [h, hp] <;> omega
theorem mb_shr (x : Int64) {k p : Nat} (hk : k < 64) (hp : p + k < 64) : mb (x >>> ((nI k).toInt64 &&& 63)) p = mb x (p + k) := by
  unfold mb
  rw [Int64.toBitVec_shiftRight, BitVec.sshiftRight', mb_shm hk, BitVec.getLsbD_sshiftRight]
  have h1 : ¬ (64 ≤ p) := by omega
  have h2 : k + p < 64 := by omega
  simp [h1, h2, Nat.add_comm]
theorem mb_1 (p : Nat) : mb 1 p = decide (p = 0) := by
  have : (1 : Int64).toBitVec = 1#64 := by decide
  simp [mb, this, BitVec.getLsbD_one]
theorem mb_bit {k p : Nat} (hk : k < 64) (hp : p < 64) : mb (1 <<< ((nI k).toInt64 &&& 63)) p = decide (p = k) := by
  rw [mb_shl 1 hk hp, mb_1]
  by_cases h : p = k
  · subst h; simp
  · simp [h]; omega
/-- the test of a bit -/
theorem mb_low (y : Int64) : y &&& 1 = if mb y 0 then 1 else 0 := by
  apply mb_ext
  intro p hp
  rw [mb_and, mb_1]
  by_cases h : p = 0
  · subst h; cases mb y 0 <;> simp [mb_1, mb_0]
  · cases mb y 0 <;> simp [mb_1, mb_0, h]
theorem mb_t (x : Int64) {k : Nat} (hk : k < 64) : (x >>> ((nI k).toInt64 &&& 63)) &&& 1 = if mb x k then 1 else 0 := by
  rw [mb_low, mb_shr x hk (by omega)]; simp
theorem mb_t1 (x : Int64) {k : Nat} (hk : k < 64) : (x >>> ((nI k).toInt64 &&& 63)) &&& 1 = 1 ↔ mb x k = true := by
  rw [mb_t x hk]; cases mb x k <;> simp
theorem mb_t0 (x : Int64) {k : Nat} (hk : k < 64) : (x >>> ((nI k).toInt64 &&& 63)) &&& 1 = 0 ↔ mb x k = false := by
  rw [mb_t x hk]; cases mb x k <;> simp
theorem mb_ti (x : Int64) {k : Nat} (hk : k < 64) : Int64.toInt32 ((x >>> ((nI k).toInt64 &&& 63)) &&& 1) = nI (if mb x k then 1 else 0) := by
  rw [mb_t x hk]; cases mb x k <;> rfl
