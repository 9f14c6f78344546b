/-! X: reckoning with longs; signs of a chain -/
section
variable {Q : Option Value → xw → Prop} {w : xw}
theorem xo_sg (x y : Int64) : decide ((x ^^^ y).toInt < 0) = (decide (x.toInt < 0) ^^ decide (y.toInt < 0)) := by
  have e : ∀ z : Int64, decide (z.toInt < 0) = z.toBitVec.msb := fun z => (BitVec.msb_eq_toInt).symm
  rw [e, e, e, Int64.toBitVec_xor, BitVec.msb_xor]
theorem b6_9 {v : Int} (h : b6 v) : -9000000000000000000 ≤ v ∧ v ≤ 9000000000000000000 := by unfold b6 at h; omega
theorem xo_ge {a b : Int} (ha : b6 a) (hb : b6 b) : (0 : Int64) ≤ jZ a ^^^ jZ b ↔ decide (a < 0) = decide (b < 0) := by
  have e := xo_sg (jZ a) (jZ b)
  rw [jZ_T (b6_9 ha), jZ_T (b6_9 hb)] at e
  rw [Int64.le_iff_toInt_le, show (0 : Int64).toInt = 0 from rfl]
  constructor
  · intro h
    rw [decide_eq_false (by omega)] at e
    cases h1 : decide (a < 0) <;> cases h2 : decide (b < 0) <;> rw [h1, h2] at e <;> first | rfl | cases e
  · intro h
    rw [h, Bool.xor_self] at e
    have := decide_eq_false_iff_not.mp e
    omega
theorem x_floorDiv {a b : Int} (ha : b6 a) (hb : b6 b) (h0 : b ≠ 0) (q : Q (some (.long (jZ (fl a b)))) w) : V_J10_floorDiv [.long (jZ a), .long (jZ b)] w Q := by
  have ha' := b6_9 ha
  have hb' := b6_9 hb
  have ha6 : -1000000 ≤ a ∧ a ≤ 1000000 := ha
  have e : (a.tdiv b).natAbs = a.natAbs / b.natAbs := Int.natAbs_tdiv a b
  have e1 : a.natAbs / b.natAbs ≤ a.natAbs := Nat.div_le_self _ _
  have hm : -1000000000000 ≤ a.tdiv b * b ∧ a.tdiv b * b ≤ 1000000000000 := by
    have m1 : (a.tdiv b * b).natAbs = (a.tdiv b).natAbs * b.natAbs := Int.natAbs_mul _ _
    have m2 : (a.tdiv b).natAbs * b.natAbs ≤ 1000000 * 1000000 := Nat.mul_le_mul (by omega) (by unfold b6 at hb; omega)
    omega
  refine e_J10_floorDiv (r_J10_floorDiv_0 ?_)
  rw [jZ_div ha hb, jZ_mul, lg_cmp_eq, lg_cmp_ge, xo_ge ha hb, show (1 : Int64) = jZ 1 from rfl, jZ_sub, show (0 : Int64) = jZ 0 from rfl, jZ_eq hb' (by omega), jZ_eq (by omega) ha']
  unfold fl at q
  rw [if_neg h0] at q
  refine ⟨h0, fun c => ⟨rfl, ?_⟩, fun c => ⟨fun c2 => ⟨rfl, ?_⟩, fun c2 => ⟨rfl, ?_⟩⟩⟩
  · rw [if_neg (fun z => z.2 c)] at q; exact q
  · rw [if_neg (fun z => z.1 (by omega))] at q; exact q
  · rw [if_pos ⟨by omega, c⟩] at q; exact q
theorem x_held {v : Int} (hv : -9000000000000000000 ≤ v ∧ v ≤ 9000000000000000000) (q : Q (some (.long (jZ (cl v)))) w) : V_X0_held [.long (jZ v)] w Q := by
  refine e_X0_held (r_X0_held_0 (e_J10_min_2 (r_J10_min_2_0 ?_)))
  unfold cl at q
  rw [lg_cmp_gt, show (1000000 : Int64) = jZ 1000000 from rfl, ← Int64.not_le, jZ_le (by omega) hv]
  refine ⟨fun c => ⟨rfl, r_X0_held_10 (e_J10_max_2 (r_J10_max_2_0 ?_))⟩, fun c => ⟨rfl, r_X0_held_10 (e_J10_max_2 (r_J10_max_2_0 ?_))⟩⟩
  · rw [if_neg (by omega)] at q
    rw [lg_cmp_lt, show -jZ 1000000 = jZ (-1000000) from rfl, ← Int64.not_le, jZ_le hv (by omega)]
    refine ⟨fun c2 => ⟨rfl, r_X0_held_13 ⟨rfl, ?_⟩⟩, fun c2 => ⟨rfl, r_X0_held_13 ⟨rfl, ?_⟩⟩⟩
    · rw [if_neg (by omega)] at q; exact q
    · by_cases c3 : v < -1000000
      · rw [if_pos c3] at q; exact q
      · rw [if_neg c3] at q
        have : v = -1000000 := by omega
        rw [this] at q; exact q
  · have c := Decidable.not_not.mp c
    refine ⟨fun c2 => ⟨rfl, r_X0_held_13 ⟨rfl, ?_⟩⟩, fun c2 => absurd (by decide) c2⟩
    by_cases c3 : 1000000 < v
    · rw [if_pos c3] at q; exact q
    · rw [if_neg c3, if_neg (by omega), show v = 1000000 by omega] at q; exact q
/-- the code of a sign -/
def sgC (s : Nat) : Nat := if s = 43 then 1 else if s = 45 then 2 else if s = 42 then 3 else 4
def sgB (s : Nat) : Prop := s = 43 ∨ s = 45 ∨ s = 42 ∨ s = 47
theorem x_two {s : Nat} {a b v : Int} (hs : sgB s) (ha : b6 a) (hb : b6 b) (hv : opV (sgC s) a b = some v) (q : ∀ r : Int, -9000000000000000000 ≤ r ∧ r ≤ 9000000000000000000 → cl r = v → Q (some (.long (jZ r))) w) : V_X9_two [.int (nI s), .long (jZ a), .long (jZ b)] w Q := by
  have hm : -1000000000000 ≤ a * b ∧ a * b ≤ 1000000000000 := by
    have m1 : (a * b).natAbs = a.natAbs * b.natAbs := Int.natAbs_mul _ _
    have m2 : a.natAbs * b.natAbs ≤ 1000000 * 1000000 := Nat.mul_le_mul (by unfold b6 at ha; omega) (by unfold b6 at hb; omega)
    omega
  have ha6 : -1000000 ≤ a ∧ a ≤ 1000000 := ha
  have hb6 : -1000000 ≤ b ∧ b ≤ 1000000 := hb
  refine e_X9_two (r_X9_two_0 ?_)
  rcases hs with g | g | g | g <;> subst g
  · have hv : some (cl (a + b)) = some v := hv
    refine ⟨fun z => absurd z (by decide), fun z => absurd z (by decide), fun _ => ⟨rfl, ?_⟩, fun z => absurd z (by decide), fun z => absurd z (by decide), trivial⟩
    rw [jZ_add]; exact q _ (by omega) (Option.some.inj hv)
  · have hv : some (cl (a - b)) = some v := hv
    refine ⟨fun z => absurd z (by decide), fun z => absurd z (by decide), fun z => absurd z (by decide), fun z => absurd z (by decide), fun _ => ⟨rfl, ?_⟩, trivial⟩
    rw [jZ_sub]; exact q _ (by omega) (Option.some.inj hv)
  · have hv : some (cl (a * b)) = some v := hv
    refine ⟨fun z => absurd z (by decide), fun _ => ⟨rfl, ?_⟩, fun z => absurd z (by decide), fun z => absurd z (by decide), fun z => absurd z (by decide), trivial⟩
    rw [jZ_mul]; exact q _ (by omega) (Option.some.inj hv)
  · have hv : some (fl a b) = some v := hv
    have hf := fl_b (b := b) ha
    have cf : cl (fl a b) = fl a b := by
      have h2 : -1000000 ≤ fl a b ∧ fl a b ≤ 1000000 := hf
      unfold cl; rw [if_neg (by omega), if_neg (by omega)]
    refine ⟨fun _ => ?_, fun z => absurd z (by decide), fun z => absurd z (by decide), fun z => absurd z (by decide), fun z => absurd z (by decide), trivial⟩
    rw [lg_cmp_eq, show (0 : Int64) = jZ 0 from rfl, jZ_eq (b6_9 hb) (by omega)]
    refine ⟨fun c => x_floorDiv ha hb c (r_X9_two_59 ⟨rfl, q _ (b6_9 hf) (by rw [cf]; exact Option.some.inj hv)⟩), fun c => r_X9_two_59 ⟨rfl, ?_⟩⟩
    have c := Decidable.not_not.mp c
    have f0 : fl a b = 0 := by unfold fl; rw [if_pos c]
    rw [← f0]; exact q _ (b6_9 hf) (by rw [cf]; exact Option.some.inj hv)
theorem ch_u : ∀ c, c < 128 → UInt32.toInt32 (Int32.toUInt32 (nI c &&& 255) % 65536) = nI c := by decide +kernel
theorem nr_c : ∀ c, c < 128 → narrow .char (.int (nI c)) = .int (nI c) := by decide +kernel
theorem x_ckI {i n : Nat} (hi : i < n) (hn : n < 2147483648) (q : Q none w) : V_J6_checkIndex [.int (nI i), .int (nI n)] w Q := by
  have h0 : ¬ (nI i < (0 : Int32)) := by rw [show (nI i < (0 : Int32)) ↔ i < 0 from n_lt (b := 0) (by omega) (by omega)]; omega
  have h1 : nI i < nI n := (n_lt (by omega) (by omega)).mpr hi
  refine e_J6_checkIndex (r_J6_checkIndex_0 ⟨eR_J8_checkIndex (rR_J8_checkIndex_0 ⟨fun z => h0 z, fun _ => ⟨fun _ => ⟨trivial, r_J6_checkIndex_8 ⟨rfl, q⟩⟩, fun z => z h1⟩⟩), e_J8_checkIndex (r_J8_checkIndex_0 ⟨fun z => h0 z, fun _ => ⟨fun _ => ⟨trivial, r_J6_checkIndex_8 ⟨rfl, q⟩⟩, fun z => z h1⟩⟩)⟩)
theorem x_chAt {S : List Nat} {b A cap k : Nat} (h : XSb S b A cap w) (hk : k < S.length) (q : Q (some (.int (nI (S.getD k 0)))) w) : V_J15_charAt [.ref b, .int (nI k)] w Q := by
  obtain ⟨⟨h1, h2, h3⟩, ⟨h4, h4'⟩, ⟨h5, h6, h7, h8⟩, h9, ⟨i1, i2, i3⟩, i4, i5, i6⟩ := id h
  have m := i5 _ (getD_mem hk)
  refine e_J15_charAt (r_J15_charAt_0 ⟨h1, e_J14_charAt (r_J14_charAt_0 ?_)⟩)
  rw [h5, h9, h4', h4, shr0, show Int32.ofNat cap = nI cap from rfl]
  refine ⟨h1, h1, by omega, h1, ⟨by dsimp only; omega, by dsimp only; omega⟩, x_min (by omega) (by omega) (r_J14_charAt_21 ?_)⟩
  rw [Nat.min_eq_left i1]
  refine x_ckI hk (by omega) (r_J14_charAt_29 ⟨fun z => absurd rfl z, fun _ => ?_⟩)
  rw [h9, n_tn (by omega), i4 k hk, ch_u _ m]
  exact ⟨rfl, (n_in (by omega)).mpr (by dsimp only; omega), nr_c _ m, r_J15_charAt_5 ⟨nr_c _ m, q⟩⟩
end
