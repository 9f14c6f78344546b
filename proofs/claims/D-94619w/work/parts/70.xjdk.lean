/-! the JDK's numbers: bits of a long, of an int; lowest bit -/
abbrev nn (x : Int64) : Nat := x.toBitVec.toNat
abbrev ushr (x : Int64) (k : Int32) : Int64 := UInt64.toInt64 (Int64.toUInt64 x >>> (Int64.toUInt64 (Int32.toInt64 k) &&& Int64.toUInt64 63))
theorem nn_ushr (x : Int64) {k : Int32} {n : Nat} (h : (Int64.toUInt64 (Int32.toInt64 k) &&& Int64.toUInt64 63).toNat % 64 = n) : nn (ushr x k) = nn x >>> n := by
  show (Int64.toUInt64 x >>> (Int64.toUInt64 (Int32.toInt64 k) &&& Int64.toUInt64 63)).toNat = _
  rw [UInt64.toNat_shiftRight, h]; rfl
theorem nn_and (x y : Int64) : nn (x &&& y) = nn x &&& nn y := by
  show (x &&& y).toBitVec.toNat = _
  rw [Int64.toBitVec_and, BitVec.toNat_and]
theorem nn_add (x y : Int64) : nn (x + y) = (nn x + nn y) % 2 ^ 64 := by
  show (x + y).toBitVec.toNat = _
  rw [Int64.toBitVec_add, BitVec.toNat_add]
theorem nn_sub {x y : Int64} (h : nn y ≤ nn x) : nn (x - y) = nn x - nn y := by
  have h1 := x.toBitVec.isLt
  show (x - y).toBitVec.toNat = _
  rw [Int64.toBitVec_sub, BitVec.toNat_sub]
  show (2 ^ 64 - nn y + nn x) % 2 ^ 64 = _
  have : nn x < 2 ^ 64 := h1
  omega
theorem nn_lt (x : Int64) : nn x < 2 ^ 64 := x.toBitVec.isLt
/-- bytes apart -/
theorem by_and (y r M c s : Nat) (hr : r < 256) (hs : s < 8) (hc : c < 2 ^ (8 - s)) : ((256 * y + r) >>> s) &&& (256 * M + c) = 256 * ((y >>> s) &&& M) + ((r >>> s) &&& c) := by
  have hc8 : c < 2 ^ 8 := Nat.lt_of_lt_of_le hc (Nat.pow_le_pow_right (by omega) (by omega))
  have h1 : (r >>> s) &&& c < 2 ^ 8 := Nat.and_lt_two_pow _ hc8
  have hr8 : r < 2 ^ 8 := hr
  apply Nat.eq_of_testBit_eq
  intro i
  rw [show (256 : Nat) = 2 ^ 8 from rfl]
  rw [Nat.testBit_and, Nat.testBit_shiftRight, Nat.testBit_two_pow_mul_add _ hr8, Nat.testBit_two_pow_mul_add _ hc8, Nat.testBit_two_pow_mul_add _ h1]
  by_cases c1 : i < 8
  · rw [if_pos c1, if_pos c1, Nat.testBit_and, Nat.testBit_shiftRight]
    by_cases c2 : s + i < 8
    · rw [if_pos c2]
    · have : c.testBit i = false := Nat.testBit_lt_two_pow (Nat.lt_of_lt_of_le hc (Nat.pow_le_pow_right (by omega) (by omega)))
      rw [this, Bool.and_false, Bool.and_false]
  · rw [if_neg c1, if_neg c1, if_neg (by omega), Nat.testBit_and, Nat.testBit_shiftRight]
    congr 2
    omega
def m8 (c : Nat) : Nat → Nat
  | 0 => 0
  | n + 1 => 256 * m8 c n + c
def bcA (n x : Nat) : Nat := x - ((x >>> 1) &&& m8 85 n)
def bcB (n x : Nat) : Nat := (bcA n x &&& m8 51 n) + ((bcA n x >>> 2) &&& m8 51 n)
def gA (r : Nat) : Nat := r - ((r >>> 1) &&& 85)
def gB (r : Nat) : Nat := (gA r &&& 51) + ((gA r >>> 2) &&& 51)
theorem shr_le (x s : Nat) : x >>> s ≤ x := by rw [Nat.shiftRight_eq_div_pow]; exact Nat.div_le_self _ _
theorem bcA_st (n y r : Nat) (hr : r < 256) : bcA (n + 1) (256 * y + r) = 256 * bcA n y + gA r := by
  have em : m8 85 (n + 1) = 256 * m8 85 n + 85 := rfl
  unfold bcA gA
  rw [em, by_and y r _ 85 1 hr (by omega) (by decide)]
  have h1 : (y >>> 1) &&& m8 85 n ≤ y := Nat.le_trans Nat.and_le_left (shr_le y 1)
  have h2 : (r >>> 1) &&& 85 ≤ r := Nat.le_trans Nat.and_le_left (shr_le r 1)
  generalize (y >>> 1) &&& m8 85 n = a at *
  generalize (r >>> 1) &&& 85 = c at *
  omega
theorem gA_lt {r : Nat} (hr : r < 256) : gA r < 256 := by unfold gA; omega
theorem bcB_st (n y r : Nat) (hr : r < 256) : bcB (n + 1) (256 * y + r) = 256 * bcB n y + gB r := by
  unfold bcB gB
  rw [bcA_st n y r hr]
  have e0 := by_and (bcA n y) (gA r) (m8 51 n) 51 0 (gA_lt hr) (by omega) (by decide)
  have e2 := by_and (bcA n y) (gA r) (m8 51 n) 51 2 (gA_lt hr) (by omega) (by decide)
  have em : m8 51 (n + 1) = 256 * m8 51 n + 51 := rfl
  rw [Nat.shiftRight_zero, Nat.shiftRight_zero, Nat.shiftRight_zero] at e0
  rw [em, e0, e2]; omega
def ctN (x : Nat) : Nat → Nat
  | 0 => 0
  | k + 1 => ctN x k + (if x.testBit k then 1 else 0)
theorem gB_ok : ∀ r, r < 256 → gB r % 16 ≤ 4 ∧ gB r / 16 ≤ 4 ∧ gB r % 16 + gB r / 16 = ctN r 8 := by decide +kernel
theorem ctN_add (x m n : Nat) : ctN x (m + n) = ctN x m + ctN (x >>> m) n := by
  induction n with
  | zero => rfl
  | succ n ih =>
    show ctN x (m + n) + (if x.testBit (m + n) then 1 else 0) = ctN x m + (ctN (x >>> m) n + (if (x >>> m).testBit n then 1 else 0))
    rw [ih, Nat.testBit_shiftRight, Nat.add_assoc]
theorem ctN_mod (x : Nat) : ctN x 8 = ctN (x % 256) 8 := by
  have : ∀ k, k ≤ 8 → ctN x k = ctN (x % 2 ^ 8) k := by
    intro k
    induction k with
    | zero => exact fun _ => rfl
    | succ k ih =>
      intro hk
      unfold ctN
      rw [ih (by omega), Nat.testBit_mod_two_pow]
      simp [show k < 8 from by omega]
  exact this 8 (Nat.le_refl _)
theorem ctN_st (x n : Nat) : ctN x (8 + n) = ctN (x % 256) 8 + ctN (x / 256) n := by
  rw [ctN_add, ctN_mod, Nat.shiftRight_eq_div_pow]
theorem ctT_N (s : Int64) (k : Nat) : ctT s k = ctN (nn s) k := by
  induction k with
  | zero => rfl
  | succ k ih => unfold ctT ctN; rw [ih, mb_nat]
theorem bcB_8 (x : Nat) (hx : x < 2 ^ 64) : ∃ g0 g1 g2 g3 g4 g5 g6 g7 : Nat, bcB 8 x = g0 + 256 * g1 + 65536 * g2 + 16777216 * g3 + 4294967296 * g4 + 1099511627776 * g5 + 281474976710656 * g6 + 72057594037927936 * g7 ∧
    (g0 % 16 ≤ 4 ∧ g0 / 16 ≤ 4) ∧ (g1 % 16 ≤ 4 ∧ g1 / 16 ≤ 4) ∧ (g2 % 16 ≤ 4 ∧ g2 / 16 ≤ 4) ∧ (g3 % 16 ≤ 4 ∧ g3 / 16 ≤ 4) ∧ (g4 % 16 ≤ 4 ∧ g4 / 16 ≤ 4) ∧ (g5 % 16 ≤ 4 ∧ g5 / 16 ≤ 4) ∧ (g6 % 16 ≤ 4 ∧ g6 / 16 ≤ 4) ∧ (g7 % 16 ≤ 4 ∧ g7 / 16 ≤ 4) ∧
    (g0 % 16 + g0 / 16) + (g1 % 16 + g1 / 16) + (g2 % 16 + g2 / 16) + (g3 % 16 + g3 / 16) + (g4 % 16 + g4 / 16) + (g5 % 16 + g5 / 16) + (g6 % 16 + g6 / 16) + (g7 % 16 + g7 / 16) = ctN x 64 := by
  have key : ∀ y, ∃ g y', y' = y / 256 ∧ (∀ n, bcB (n + 1) y = 256 * bcB n y' + g) ∧ g % 16 ≤ 4 ∧ g / 16 ≤ 4 ∧ ∀ n, ctN y (8 + n) = (g % 16 + g / 16) + ctN y' n := fun y => by
    have md : y % 256 < 256 := Nat.mod_lt _ (by omega)
    obtain ⟨o1, o2, o3⟩ := gB_ok _ md
    refine ⟨gB (y % 256), y / 256, rfl, fun n => ?_, o1, o2, fun n => ?_⟩
    · have := bcB_st n (y / 256) (y % 256) md
      rw [Nat.div_add_mod] at this; exact this
    · rw [ctN_st, o3]
  obtain ⟨g0, y1, e1, b0, l0, h0, c0⟩ := key x
  obtain ⟨g1, y2, e2, b1, l1, h1, c1⟩ := key y1
  obtain ⟨g2, y3, e3, b2, l2, h2, c2⟩ := key y2
  obtain ⟨g3, y4, e4, b3, l3, h3, c3⟩ := key y3
  obtain ⟨g4, y5, e5, b4, l4, h4, c4⟩ := key y4
  obtain ⟨g5, y6, e6, b5, l5, h5, c5⟩ := key y5
  obtain ⟨g6, y7, e7, b6, l6, h6, c6⟩ := key y6
  obtain ⟨g7, y8, e8, b7, l7, h7, c7⟩ := key y7
  have z8 : y8 = 0 := by omega
  have b8 : bcB 0 y8 = 0 := by rw [z8]; rfl
  have c8 : ctN y8 0 = 0 := rfl
  have eB : bcB 8 x = 256 * (256 * (256 * (256 * (256 * (256 * (256 * (256 * 0 + g7) + g6) + g5) + g4) + g3) + g2) + g1) + g0 := by
    rw [b0 7, b1 6, b2 5, b3 4, b4 3, b5 2, b6 1, b7 0, b8]
  have eC : ctN x 64 = (g0 % 16 + g0 / 16) + ((g1 % 16 + g1 / 16) + ((g2 % 16 + g2 / 16) + ((g3 % 16 + g3 / 16) + ((g4 % 16 + g4 / 16) + ((g5 % 16 + g5 / 16) + ((g6 % 16 + g6 / 16) + ((g7 % 16 + g7 / 16) + 0))))))) := by
    rw [← c8, ← c7 0, ← c6, ← c5, ← c4, ← c3, ← c2, ← c1, ← c0]
  generalize bcB 8 x = bb at *
  generalize ctN x 64 = cc at *
  clear b0 b1 b2 b3 b4 b5 b6 b7 b8 c0 c1 c2 c3 c4 c5 c6 c7 c8 key
  refine ⟨g0, g1, g2, g3, g4, g5, g6, g7, ?_, ⟨l0, h0⟩, ⟨l1, h1⟩, ⟨l2, h2⟩, ⟨l3, h3⟩, ⟨l4, h4⟩, ⟨l5, h5⟩, ⟨l6, h6⟩, ⟨l7, h7⟩, ?_⟩
  · rw [eB]
    clear eC e1 e2 e3 e4 e5 e6 e7 e8 z8 hx l0 h0 l1 h1 l2 h2 l3 h3 l4 h4 l5 h5 l6 h6 l7 h7
    omega
  · rw [eC]; omega
theorem and_bytes (a0 a1 a2 a3 a4 a5 a6 a7 : Nat) (h0 : a0 < 256) (h1 : a1 < 256) (h2 : a2 < 256) (h3 : a3 < 256) (h4 : a4 < 256) (h5 : a5 < 256) (h6 : a6 < 256) (h7 : a7 < 256) :
    (a0 + 256 * a1 + 65536 * a2 + 16777216 * a3 + 4294967296 * a4 + 1099511627776 * a5 + 281474976710656 * a6 + 72057594037927936 * a7) &&& m8 15 8 = a0 % 16 + 256 * (a1 % 16) + 65536 * (a2 % 16) + 16777216 * (a3 % 16) + 4294967296 * (a4 % 16) + 1099511627776 * (a5 % 16) + 281474976710656 * (a6 % 16) + 72057594037927936 * (a7 % 16) := by
  have st : ∀ n y r, r < 256 → (256 * y + r) &&& m8 15 (n + 1) = 256 * (y &&& m8 15 n) + r % 16 := fun n y r hr => by
    have e := by_and y r (m8 15 n) 15 0 hr (by omega) (by decide)
    rw [Nat.shiftRight_zero, Nat.shiftRight_zero, Nat.shiftRight_zero] at e
    have e2 : r &&& 15 = r % 16 := Nat.and_two_pow_sub_one_eq_mod r 4
    rw [e2] at e; exact e
  have f : a0 + 256 * a1 + 65536 * a2 + 16777216 * a3 + 4294967296 * a4 + 1099511627776 * a5 + 281474976710656 * a6 + 72057594037927936 * a7 = 256 * (256 * (256 * (256 * (256 * (256 * (256 * (256 * 0 + a7) + a6) + a5) + a4) + a3) + a2) + a1) + a0 := by omega
  rw [f, st 7 _ _ h0, st 6 _ _ h1, st 5 _ _ h2, st 4 _ _ h3, st 3 _ _ h4, st 2 _ _ h5, st 1 _ _ h6, st 0 _ _ h7]
  have : (0 : Nat) &&& m8 15 0 = 0 := rfl
  rw [this]; omega
theorem sh_q {n k r q : Nat} (h : n = r + 2 ^ k * q) (hr : r < 2 ^ k) : n >>> k = q := by
  rw [Nat.shiftRight_eq_div_pow, h, Nat.add_mul_div_left _ _ (Nat.two_pow_pos k), Nat.div_eq_of_lt hr, Nat.zero_add]
/-- the whole count -/
theorem bc_nat (x : Nat) (hx : x < 2 ^ 64) : ∃ z : Nat, z = (bcB 8 x + bcB 8 x >>> 4) &&& m8 15 8 ∧ bcB 8 x + bcB 8 x >>> 4 < 2 ^ 64 ∧ z + z >>> 8 < 2 ^ 64 ∧ (z + z >>> 8) + (z + z >>> 8) >>> 16 < 2 ^ 64 ∧ ((z + z >>> 8) + (z + z >>> 8) >>> 16) + ((z + z >>> 8) + (z + z >>> 8) >>> 16) >>> 32 < 2 ^ 64 ∧ (((z + z >>> 8) + (z + z >>> 8) >>> 16) + ((z + z >>> 8) + (z + z >>> 8) >>> 16) >>> 32) % 128 = ctN x 64 := by
  obtain ⟨g0, g1, g2, g3, g4, g5, g6, g7, e, h0, h1, h2, h3, h4, h5, h6, h7, hs⟩ := bcB_8 x hx
  generalize bcB 8 x = bb at *
  generalize ctN x 64 = cN at *
  clear hx
  have d : ∀ g : Nat, ∃ l h, g = 16 * h + l ∧ g % 16 = l ∧ g / 16 = h := fun g => ⟨g % 16, g / 16, (Nat.div_add_mod g 16).symm, rfl, rfl⟩
  obtain ⟨l0, k0, a0, b0, c0⟩ := d g0
  obtain ⟨l1, k1, a1, b1, c1⟩ := d g1
  obtain ⟨l2, k2, a2, b2, c2⟩ := d g2
  obtain ⟨l3, k3, a3, b3, c3⟩ := d g3
  obtain ⟨l4, k4, a4, b4, c4⟩ := d g4
  obtain ⟨l5, k5, a5, b5, c5⟩ := d g5
  obtain ⟨l6, k6, a6, b6, c6⟩ := d g6
  obtain ⟨l7, k7, a7, b7, c7⟩ := d g7
  rw [b0, c0] at h0 hs; rw [b1, c1] at h1 hs; rw [b2, c2] at h2 hs; rw [b3, c3] at h3 hs
  rw [b4, c4] at h4 hs; rw [b5, c5] at h5 hs; rw [b6, c6] at h6 hs; rw [b7, c7] at h7 hs
  clear b0 b1 b2 b3 b4 b5 b6 b7 c0 c1 c2 c3 c4 c5 c6 c7 d
  subst a0 a1 a2 a3 a4 a5 a6 a7
  obtain ⟨h0, h0'⟩ := h0; obtain ⟨h1, h1'⟩ := h1; obtain ⟨h2, h2'⟩ := h2; obtain ⟨h3, h3'⟩ := h3
  obtain ⟨h4, h4'⟩ := h4; obtain ⟨h5, h5'⟩ := h5; obtain ⟨h6, h6'⟩ := h6; obtain ⟨h7, h7'⟩ := h7
  have ed : bb >>> 4 = k0 + 16 * l1 + 256 * k1 + 4096 * l2 + 65536 * k2 + 1048576 * l3 + 16777216 * k3 + 268435456 * l4 + 4294967296 * k4 + 68719476736 * l5 + 1099511627776 * k5 + 17592186044416 * l6 + 281474976710656 * k6 + 4503599627370496 * l7 + 72057594037927936 * k7 := by
    refine sh_q (r := l0) ?_ (by omega)
    rw [e]; clear e hs h0 h0' h1 h1' h2 h2' h3 h3' h4 h4' h5 h5' h6 h6' h7 h7'; omega
  have es : bb + bb >>> 4 = (16 * (k0 + l1) + (l0 + k0)) + 256 * (16 * (k1 + l2) + (l1 + k1)) + 65536 * (16 * (k2 + l3) + (l2 + k2)) + 16777216 * (16 * (k3 + l4) + (l3 + k3)) + 4294967296 * (16 * (k4 + l5) + (l4 + k4)) + 1099511627776 * (16 * (k5 + l6) + (l5 + k5)) + 281474976710656 * (16 * (k6 + l7) + (l6 + k6)) + 72057594037927936 * (16 * k7 + (l7 + k7)) := by
    rw [ed, e]; clear ed e hs h0 h0' h1 h1' h2 h2' h3 h3' h4 h4' h5 h5' h6 h6' h7 h7'; omega
  have q : ∀ a b : Nat, b < 16 → (16 * a + b) % 16 = b := fun a b hb => by omega
  have hlt : bb + bb >>> 4 < 2 ^ 64 := by
    rw [es]; clear es ed e hs; omega
  have em : (bb + bb >>> 4) &&& m8 15 8 = (l0 + k0) + 256 * (l1 + k1) + 65536 * (l2 + k2) + 16777216 * (l3 + k3) + 4294967296 * (l4 + k4) + 1099511627776 * (l5 + k5) + 281474976710656 * (l6 + k6) + 72057594037927936 * (l7 + k7) := by
    rw [es]
    clear es ed e hs hlt
    rw [and_bytes _ _ _ _ _ _ _ _ (by omega) (by omega) (by omega) (by omega) (by omega) (by omega) (by omega) (by omega), q _ _ (by omega), q _ _ (by omega), q _ _ (by omega), q _ _ (by omega), q _ _ (by omega), q _ _ (by omega), q _ _ (by omega), q _ _ (by omega)]
  refine ⟨_, rfl, hlt, ?_⟩
  rw [em]
  clear em es ed e hlt
  obtain ⟨p0, y0⟩ : ∃ p, p = l0 + k0 := ⟨_, rfl⟩
  obtain ⟨p1, y1⟩ : ∃ p, p = l1 + k1 := ⟨_, rfl⟩
  obtain ⟨p2, y2⟩ : ∃ p, p = l2 + k2 := ⟨_, rfl⟩
  obtain ⟨p3, y3⟩ : ∃ p, p = l3 + k3 := ⟨_, rfl⟩
  obtain ⟨p4, y4⟩ : ∃ p, p = l4 + k4 := ⟨_, rfl⟩
  obtain ⟨p5, y5⟩ : ∃ p, p = l5 + k5 := ⟨_, rfl⟩
  obtain ⟨p6, y6⟩ : ∃ p, p = l6 + k6 := ⟨_, rfl⟩
  obtain ⟨p7, y7⟩ : ∃ p, p = l7 + k7 := ⟨_, rfl⟩
  have hs : p0 + p1 + p2 + p3 + p4 + p5 + p6 + p7 = cN := by omega
  have u0 : p0 ≤ 8 := by omega
  have u1 : p1 ≤ 8 := by omega
  have u2 : p2 ≤ 8 := by omega
  have u3 : p3 ≤ 8 := by omega
  have u4 : p4 ≤ 8 := by omega
  have u5 : p5 ≤ 8 := by omega
  have u6 : p6 ≤ 8 := by omega
  have u7 : p7 ≤ 8 := by omega
  rw [← y0, ← y1, ← y2, ← y3, ← y4, ← y5, ← y6, ← y7]
  clear y0 y1 y2 y3 y4 y5 y6 y7 h0 h0' h1 h1' h2 h2' h3 h3' h4 h4' h5 h5' h6 h6' h7 h7'
  have z1 : (p0 + 256 * p1 + 65536 * p2 + 16777216 * p3 + 4294967296 * p4 + 1099511627776 * p5 + 281474976710656 * p6 + 72057594037927936 * p7) >>> 8 = p1 + 256 * p2 + 65536 * p3 + 16777216 * p4 + 4294967296 * p5 + 1099511627776 * p6 + 281474976710656 * p7 := by
    refine sh_q (r := p0) ?_ (by omega)
    omega
  rw [z1]
  clear z1
  have z2 : (p0 + 256 * p1 + 65536 * p2 + 16777216 * p3 + 4294967296 * p4 + 1099511627776 * p5 + 281474976710656 * p6 + 72057594037927936 * p7 + (p1 + 256 * p2 + 65536 * p3 + 16777216 * p4 + 4294967296 * p5 + 1099511627776 * p6 + 281474976710656 * p7)) >>> 16 = (p2 + p3) + 256 * (p3 + p4) + 65536 * (p4 + p5) + 16777216 * (p5 + p6) + 4294967296 * (p6 + p7) + 1099511627776 * p7 := by
    refine sh_q (r := (p0 + p1) + 256 * (p1 + p2)) ?_ (by omega)
    omega
  rw [z2]
  clear z2
  have z3 : (p0 + 256 * p1 + 65536 * p2 + 16777216 * p3 + 4294967296 * p4 + 1099511627776 * p5 + 281474976710656 * p6 + 72057594037927936 * p7 + (p1 + 256 * p2 + 65536 * p3 + 16777216 * p4 + 4294967296 * p5 + 1099511627776 * p6 + 281474976710656 * p7) + ((p2 + p3) + 256 * (p3 + p4) + 65536 * (p4 + p5) + 16777216 * (p5 + p6) + 4294967296 * (p6 + p7) + 1099511627776 * p7)) >>> 32 = (p4 + p5 + p6 + p7) + 256 * (p5 + p6 + p7) + 65536 * (p6 + p7) + 16777216 * p7 := by
    refine sh_q (r := (p0 + p1 + p2 + p3) + 256 * (p1 + p2 + p3 + p4) + 65536 * (p2 + p3 + p4 + p5) + 16777216 * (p3 + p4 + p5 + p6)) ?_ (by omega)
    omega
  rw [z3]
  clear z3
  refine ⟨by omega, by omega, by omega, ?_⟩
  have eT : ∀ T : Nat, T = cN + 128 * (2 * (p1 + 256 * p2 + 65536 * p3 + 16777216 * p4 + 4294967296 * p5 + 1099511627776 * p6 + 281474976710656 * p7 + (p2 + 256 * p3 + 65536 * p4 + 16777216 * p5 + 4294967296 * p6 + 1099511627776 * p7) + ((p3 + p4) + 256 * (p4 + p5) + 65536 * (p5 + p6) + 16777216 * (p6 + p7) + 4294967296 * p7) + ((p5 + p6 + p7) + 256 * (p6 + p7) + 65536 * p7))) → T % 128 = cN := fun T hT => by
    rw [hT, Nat.add_mul_mod_self_left, Nat.mod_eq_of_lt (by omega)]
  refine eT _ ?_
  rw [← hs]; omega
abbrev bc1 (x : Int64) : Int64 := x - (ushr x 1 &&& 6148914691236517205)
abbrev bc2 (x : Int64) : Int64 := (x &&& 3689348814741910323) + (ushr x 2 &&& 3689348814741910323)
abbrev bc3 (x : Int64) : Int64 := (x + ushr x 4) &&& 1085102592571150095
theorem m8_85 : m8 85 8 = 6148914691236517205 := by decide +kernel
theorem m8_51 : m8 51 8 = 3689348814741910323 := by decide +kernel
theorem m8_15 : m8 15 8 = 1085102592571150095 := by decide +kernel
theorem nn_85 : nn 6148914691236517205 = 6148914691236517205 := by decide +kernel
theorem nn_51 : nn 3689348814741910323 = 3689348814741910323 := by decide +kernel
theorem nn_15 : nn 1085102592571150095 = 1085102592571150095 := by decide +kernel
theorem nn_bc12 (x : Int64) : nn (bc2 (bc1 x)) = bcB 8 (nn x) := by
  have e1 : nn (bc1 x) = bcA 8 (nn x) := by
    have h : nn (ushr x 1 &&& 6148914691236517205) = (nn x >>> 1) &&& m8 85 8 := by rw [nn_and, nn_ushr x (n := 1) (by decide +kernel), nn_85, m8_85]
    rw [nn_sub (by rw [h]; exact Nat.le_trans Nat.and_le_left (shr_le _ 1)), h]
    unfold bcA; rfl
  have ha : nn (bc1 x &&& 3689348814741910323) = bcA 8 (nn x) &&& m8 51 8 := by rw [nn_and, e1, nn_51, m8_51]
  have hb : nn (ushr (bc1 x) 2 &&& 3689348814741910323) = (bcA 8 (nn x) >>> 2) &&& m8 51 8 := by rw [nn_and, nn_ushr _ (n := 2) (by decide +kernel), e1, nn_51, m8_51]
  have h1 : bcA 8 (nn x) &&& m8 51 8 ≤ m8 51 8 := Nat.and_le_right
  have h2 : (bcA 8 (nn x) >>> 2) &&& m8 51 8 ≤ m8 51 8 := Nat.and_le_right
  have h3 := m8_51
  rw [nn_add, ha, hb]
  unfold bcB
  rw [Nat.mod_eq_of_lt (by omega)]
theorem bcL_ok (x : Int64) : (Int64.toInt32 (((bc3 (bc2 (bc1 x)) + ushr (bc3 (bc2 (bc1 x))) 8) + ushr (bc3 (bc2 (bc1 x)) + ushr (bc3 (bc2 (bc1 x))) 8) 16) + ushr ((bc3 (bc2 (bc1 x)) + ushr (bc3 (bc2 (bc1 x))) 8) + ushr (bc3 (bc2 (bc1 x)) + ushr (bc3 (bc2 (bc1 x))) 8) 16) 32)) &&& 127 = nI (cnt x) := by
  obtain ⟨z, hz, q1, q2, q3, q4, q5⟩ := bc_nat (nn x) (nn_lt x)
  have e3 : nn (bc3 (bc2 (bc1 x))) = z := by
    rw [nn_and, nn_add, nn_ushr _ (n := 4) (by decide +kernel), nn_bc12, Nat.mod_eq_of_lt q1, hz, nn_15, m8_15]
  generalize bc3 (bc2 (bc1 x)) = y at *
  have e4 : nn (y + ushr y 8) = z + z >>> 8 := by rw [nn_add, nn_ushr _ (n := 8) (by decide +kernel), e3, Nat.mod_eq_of_lt q2]
  generalize y + ushr y 8 = y1 at *
  have e5 : nn (y1 + ushr y1 16) = (z + z >>> 8) + (z + z >>> 8) >>> 16 := by rw [nn_add, nn_ushr _ (n := 16) (by decide +kernel), e4, Nat.mod_eq_of_lt q3]
  generalize y1 + ushr y1 16 = y2 at *
  have e6 : nn (y2 + ushr y2 32) = ((z + z >>> 8) + (z + z >>> 8) >>> 16) + ((z + z >>> 8) + (z + z >>> 8) >>> 16) >>> 32 := by rw [nn_add, nn_ushr _ (n := 32) (by decide +kernel), e5, Nat.mod_eq_of_lt q4]
  generalize y2 + ushr y2 32 = y3 at *
  rw [← e6] at q5
  have hc : ctN (nn x) 64 = cnt x := (ctT_N x 64).symm
  have hl := cnt_le x
  rw [hc] at q5
  apply Int32.toBitVec_inj.mp
  apply BitVec.eq_of_toNat_eq
  rw [Int32.toBitVec_and, BitVec.toNat_and, Int64.toBitVec_toInt32]
  have a1 : (BitVec.signExtend 32 y3.toBitVec).toNat = nn y3 % 2 ^ 32 := by
    rw [BitVec.signExtend_eq_setWidth_of_le _ (by omega), BitVec.toNat_setWidth]
  have a2 : (127 : Int32).toBitVec.toNat = 127 := by decide +kernel
  have a3 : (nI (cnt x)).toBitVec.toNat = cnt x % 2 ^ 32 := by
    show (Int32.ofNat (cnt x)).toBitVec.toNat = _
    rw [Int32.toBitVec_ofNat', BitVec.toNat_ofNat]
  rw [a1, a2, a3]
  have a4 : (nn y3 % 2 ^ 32) &&& 127 = nn y3 % 2 ^ 32 % 128 := Nat.and_two_pow_sub_one_eq_mod _ 7
  rw [a4]
  have key : ∀ Y C : Nat, Y % 128 = C → C ≤ 64 → Y % 2 ^ 32 % 128 = C % 2 ^ 32 := fun Y C h1 h2 => by omega
  exact key _ _ q5 hl
theorem x_bitCount {Q : Option Value → xw → Prop} {w : xw} (s : Int64) (q : Q (some (.int (nI (cnt s)))) w) : V_J16_bitCount [.long s] w Q := by
  refine e_J16_bitCount (r_J16_bitCount_0 ⟨trivial, ?_⟩)
  rw [← bcL_ok s] at q
  exact q
/-! ints -/
abbrev ushI (x k : Int32) : Int32 := UInt32.toInt32 (Int32.toUInt32 x >>> (Int32.toUInt32 k &&& Int32.toUInt32 31))
def bi1 (a : Int32) : Int32 := a - (ushI a 1 &&& 1431655765)
def bi2 (a : Int32) : Int32 := (a &&& 858993459) + (ushI a 2 &&& 858993459)
def bi3 (a : Int32) : Int32 := (a + ushI a 4) &&& 252645135
def bi4 (a : Int32) : Int32 := a + ushI a 8
def bi5 (a : Int32) : Int32 := a + ushI a 16
def bcI (a : Int32) : Int32 := bi5 (bi4 (bi3 (bi2 (bi1 a)))) &&& 63
theorem x_bitCount32 {Q : Option Value → xw → Prop} {w : xw} {n : Nat} (hn : n < 4096) (q : Q (some (.int (nI (pcN n)))) w) : V_J17_bitCount [.int (nI n)] w Q := by
  refine e_J17_bitCount (r_J17_bitCount_0 ⟨trivial, ?_⟩)
  have key : ∀ i, i < 64 → ∀ j, j < 64 → bcI (nI (64 * i + j)) = nI (pcN (64 * i + j)) := by decide +kernel
  have := key (n / 64) (by omega) (n % 64) (by omega)
  rw [Nat.div_add_mod] at this
  rw [← this] at q
  exact q
/-! the lowest bit -/
def mi (x : Int32) (p : Nat) : Bool := x.toBitVec.getLsbD p
theorem mi_ext {x y : Int32} (h : ∀ p, p < 32 → mi x p = mi y p) : x = y := by
  apply Int32.toBitVec_inj.mp
  apply BitVec.eq_of_getLsbD_eq
  exact fun i hi => h i hi
theorem mi_nat (x : Int32) (p : Nat) : mi x p = x.toBitVec.toNat.testBit p := rfl
theorem mi_sub1 {s : Int32} {k : Nat} (h1 : mi s k = true) (h2 : ∀ j, j < k → mi s j = false) (p : Nat) : mi (s - 1) p = if p < k then true else if p = k then false else mi s p := by
  have hn := s.toBitVec.isLt
  have e1 : (s - 1).toBitVec.toNat = s.toBitVec.toNat - 1 := by
    have hpos : s.toBitVec.toNat ≠ 0 := fun z => by
      rw [mi_nat, z, Nat.zero_testBit] at h1; cases h1
    rw [Int32.toBitVec_sub, BitVec.toNat_sub]
    have : (1 : Int32).toBitVec.toNat = 1 := by decide
    rw [this]; omega
  rw [mi_nat, mi_nat, e1]
  exact nat_sub1 h1 h2 p
theorem mi_m1 {p : Nat} (h : p < 32) : mi (-1) p = true := by
  have : ∀ p, p < 32 → mi (-1) p = true := by decide +kernel
  exact this p h
theorem mi_low {s : Int32} {k : Nat} (hk : k < 32) (h1 : mi s k = true) (h2 : ∀ j, j < k → mi s j = false) : (s ^^^ (-1)) &&& (s - 1) = nI (2 ^ k - 1) := by
  apply mi_ext
  intro p hp
  have e1 : mi ((s ^^^ (-1)) &&& (s - 1)) p = ((mi s p ^^ mi (-1) p) && mi (s - 1) p) := by
    unfold mi
    rw [Int32.toBitVec_and, Int32.toBitVec_xor, BitVec.getLsbD_and, BitVec.getLsbD_xor]
  have e2 : mi (nI (2 ^ k - 1)) p = decide (p < k) := by
    show (Int32.ofNat (2 ^ k - 1)).toBitVec.getLsbD p = _
    rw [Int32.toBitVec_ofNat', BitVec.getLsbD_ofNat, Nat.testBit_two_pow_sub_one]
    simp [hp]
  rw [e1, e2, mi_m1 hp, mi_sub1 h1 h2]
  by_cases c : p < k
  · rw [h2 p c]; simp [c]
  · by_cases c2 : p = k
    · subst c2; simp [h1]
    · simp [c, c2]
def z34 (q : Int32 × Int32) : Int32 × Int32 := if q.1 ≤ 256 then q else (ushI q.1 8, q.2 + 8)
def z49 (q : Int32 × Int32) : Int32 × Int32 := if q.1 ≤ 16 then q else (ushI q.1 4, q.2 + 4)
def z62 (q : Int32 × Int32) : Int32 × Int32 := if q.1 ≤ 4 then q else (ushI q.1 2, q.2 + 2)
def z0 (y : Int32) : Int32 × Int32 := if y ≤ 65536 then (y, 1) else (ushI y 16, 1 + 16)
def zE (q : Int32 × Int32) : Int32 := q.2 + ushI q.1 1
theorem x_ntz32 {Q : Option Value → xw → Prop} {w : xw} {s : Int32} {k : Nat} (hk : k < 32) (h1 : mi s k = true) (h2 : ∀ j, j < k → mi s j = false) (q : Q (some (.int (nI k))) w) : V_J17_numberOfTrailingZeros [.int s] w Q := by
  have t74 : ∀ a b : Int32, Q (some (.int (zE (a, b)))) w → T_J17_numberOfTrailingZeros Q 74 [some (.int a), some (.int b)] [] w := fun a b h => r_J17_numberOfTrailingZeros_74 ⟨trivial, h⟩
  have t62 : ∀ z : Int32 × Int32, Q (some (.int (zE (z62 z)))) w → T_J17_numberOfTrailingZeros Q 62 [some (.int z.1), some (.int z.2)] [] w := fun z h => by
    unfold z62 at h
    refine r_J17_numberOfTrailingZeros_62 ⟨fun c => ?_, fun c => ?_⟩
    · rw [if_pos c] at h; exact t74 _ _ h
    · rw [if_neg c] at h; exact t74 _ _ h
  have t49 : ∀ z : Int32 × Int32, Q (some (.int (zE (z62 (z49 z))))) w → T_J17_numberOfTrailingZeros Q 49 [some (.int z.1), some (.int z.2)] [] w := fun z h => by
    refine r_J17_numberOfTrailingZeros_49 ⟨fun c => ?_, fun c => ?_⟩
    · rw [show z49 z = z from if_pos c] at h; exact t62 z h
    · rw [show z49 z = (ushI z.1 4, z.2 + 4) from if_neg c] at h; exact t62 (ushI z.1 4, z.2 + 4) h
  have t34 : ∀ z : Int32 × Int32, Q (some (.int (zE (z62 (z49 (z34 z)))))) w → T_J17_numberOfTrailingZeros Q 34 [some (.int z.1), some (.int z.2)] [] w := fun z h => by
    refine r_J17_numberOfTrailingZeros_34 ⟨fun c => ?_, fun c => ?_⟩
    · rw [show z34 z = z from if_pos c] at h; exact t49 z h
    · rw [show z34 z = (ushI z.1 8, z.2 + 8) from if_neg c] at h; exact t49 (ushI z.1 8, z.2 + 8) h
  have e := mi_low hk h1 h2
  have fin : ∀ k, k < 32 → (0 < k → zE (z62 (z49 (z34 (z0 (nI (2 ^ k - 1)))))) = nI k) ∧ (0 < nI (2 ^ k - 1) ↔ 0 < k) := by decide +kernel
  obtain ⟨f1, f2⟩ := fin k hk
  refine e_J17_numberOfTrailingZeros (r_J17_numberOfTrailingZeros_0 ?_)
  rw [e]
  refine ⟨fun c => ?_, fun c => ⟨trivial, ?_⟩⟩
  · have hp := f2.mp c
    rw [← f1 hp] at q
    refine ⟨fun c2 => ?_, fun c2 => ?_⟩
    · rw [show z0 (nI (2 ^ k - 1)) = (nI (2 ^ k - 1), 1) from if_pos c2] at q; exact t34 _ q
    · rw [show z0 (nI (2 ^ k - 1)) = (ushI (nI (2 ^ k - 1)) 16, 1 + 16) from if_neg c2] at q; exact t34 (ushI (nI (2 ^ k - 1)) 16, 1 + 16) q
  · have hp : k = 0 := by
      rcases Nat.eq_zero_or_pos k with h | h
      · exact h
      · exact absurd (f2.mpr h) c
    subst hp
    have e0 : nI (2 ^ 0 - 1) &&& 32 = nI 0 := by decide +kernel
    rw [e0]; exact q
theorem mi_lo (s : Int64) {p : Nat} (hp : p < 32) : mi (Int64.toInt32 s) p = mb s p := by
  unfold mi mb
  rw [Int64.toBitVec_toInt32, BitVec.getLsbD_signExtend]
  simp [hp, show p < 64 from by omega]
theorem mi_hi (s : Int64) {p : Nat} (hp : p < 32) : mi (Int64.toInt32 (ushr s 32)) p = mb s (32 + p) := by
  rw [mi_lo _ hp, mb_nat, mb_nat, show (ushr s 32).toBitVec.toNat = nn (ushr s 32) from rfl, nn_ushr s (n := 32) (by decide +kernel), Nat.testBit_shiftRight]
theorem x_ntz {Q : Option Value → xw → Prop} {w : xw} {s : Int64} {k : Nat} (hk : k < 64) (h1 : mb s k = true) (h2 : ∀ j, j < k → mb s j = false) (q : Q (some (.int (nI k))) w) : V_J16_numberOfTrailingZeros [.long s] w Q := by
  refine e_J16_numberOfTrailingZeros (r_J16_numberOfTrailingZeros_0 ⟨fun c => ?_, fun c => ?_⟩)
  · have hk2 : k < 32 := by
      rcases Nat.lt_or_ge k 32 with h | h
      · exact h
      · exact absurd (mi_ext (fun p hp => by rw [mi_lo s hp, h2 p (by omega)]; simp [mi])) c
    exact x_ntz32 hk2 (by rw [mi_lo s hk2]; exact h1) (fun j hj => by rw [mi_lo s (by omega)]; exact h2 j hj) (r_J16_numberOfTrailingZeros_25 ⟨trivial, q⟩)
  · rw [Decidable.not_not] at c
    have hk2 : 32 ≤ k := by
      rcases Nat.lt_or_ge k 32 with h | h
      · have := mi_lo s h
        rw [c, h1] at this
        simp [mi] at this
      · exact h
    refine x_ntz32 (k := k - 32) (by omega) ?_ (fun j hj => ?_) (r_J16_numberOfTrailingZeros_17 (r_J16_numberOfTrailingZeros_25 ⟨trivial, ?_⟩))
    · show mi (Int64.toInt32 (ushr s 32)) (k - 32) = true
      rw [mi_hi s (by omega), show 32 + (k - 32) = k from by omega]; exact h1
    · show mi (Int64.toInt32 (ushr s 32)) j = false
      rw [mi_hi s (by omega)]; exact h2 _ (by omega)
    · have : (32 : Int32) + nI (k - 32) = nI k := by
        have := n_add 32 (k - 32)
        rw [show 32 + (k - 32) = k from by omega] at this; exact this
      rw [this]; exact q
