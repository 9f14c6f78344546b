/-! X: places, sides -/
section
variable {Q : Option Value → xw → Prop} {w : xw} {B : Bd} {s t : GS} {a b : Nat}
/-- what a side's land is worth -/
def wthL (B : Bd) (x : Int64) (n : Nat) : Nat := smP (fun p => if mb x p = true then bV B p else 0) n
theorem wthL_le {B : Bd} (hV : ∀ p, p < bN B → bV B p ≤ 99) {x : Int64} {n : Nat} (hn : n ≤ bN B) : wthL B x n ≤ 99 * n := by
  unfold wthL
  induction n with
  | zero => exact Nat.le_refl _
  | succ n ih =>
    unfold smP
    have := ih (by omega)
    have := hV n (by omega)
    split <;> omega
theorem wthL_skip {B : Bd} {x : Int64} {k u : Nat} (hku : k ≤ u) (h : ∀ j, k ≤ j → j < u → mb x j = false) : wthL B x u = wthL B x k := by
  unfold wthL
  induction u with
  | zero => rw [show k = 0 from by omega]
  | succ u ih =>
    by_cases z : k = u + 1
    · rw [z]
    · conv => lhs; unfold smP
      rw [ih (by omega) (fun j h1 h2 => h j h1 (by omega)), h u (by omega) (by omega)]; rfl
theorem x_worth (hN : bN B ≤ 36) (hV : ∀ p, p < bN B → bV B p ≤ 99) (hE : XE B b w) (hP : XP a w) {l : Nat → Nat} {x : Nat} (hx : x < 2) (hL : xL w (a + 2) x = ldL l x) (h0 : ∀ p, bN B ≤ p → l p = 0) (q : Q (some (.int (nI (landG B l x true)))) w) : V_X5_worth [.ref a, .int (nI x)] w Q := by
  have ha := XP_ge hP
  have ml : ∀ p, p < 64 → mb (ldL l x) p = (decide (p < bN B) && decide (l p = 1 + x)) := fun p hp => by
    rw [mb_ldL _ _ hp]
    by_cases c : p < bN B
    · simp [c, show p < 36 from by omega]
    · simp [c, h0 p (by omega)]; omega
  have el : landG B l x true = wthL B (ldL l x) (bN B) := by
    unfold landG wthL
    refine smP_cong (fun p hp => ?_)
    unfold landF
    rw [ml p (by omega)]
    by_cases c : l p = 1 + x
    · simp [c, hp]
    · simp [c]
  rw [el] at q
  have main : ∀ (f k : Nat) (left : Int64), k + f = 64 → (∀ p, p < 64 → mb left p = (mb (ldL l x) p && decide (k ≤ p))) → ∀ {o1 o4 : Option Value}, T_X5_worth Q 9 [some (.ref a), o1, some (.int (nI (wthL B (ldL l x) (min k (bN B))))), some (.long left), o4] [] w := by
    intro f
    induction f using Nat.strongRecOn with
    | _ f ih =>
      intro k left hf hl o1 o4
      refine r_X5_worth_9 ⟨fun c => ⟨trivial, ?_⟩, fun c => ?_⟩
      · rw [lg_cmp_eq, mb_zero] at c
        have : wthL B (ldL l x) (bN B) = wthL B (ldL l x) (min k (bN B)) := wthL_skip (by omega) (fun j h1 h2 => by
          have := c j (by omega)
          rw [hl j (by omega)] at this
          cases z : mb (ldL l x) j with
          | false => rfl
          | true => rw [z] at this; simp at this; omega)
        rw [this] at q; exact q
      · rw [lg_cmp_eq] at c
        obtain ⟨u, hu1, hu2, hu3⟩ := lowB c
        have hu4 : mb (ldL l x) u = true ∧ k ≤ u := by
          rw [hl u hu1] at hu2
          simp at hu2; exact hu2
        have hub : u < bN B := by
          have := hu4.1
          rw [ml u hu1] at this
          simp at this; exact this.1
        rw [XP_r13 hP, XE_b hE]
        refine ⟨XP_s hP, by omega, XE_s hE, hE.2.1.1.1, XE_bs hE, hE.2.2.2.2.1.1.1, x_ntz hu1 hu2 hu3 (r_X5_worth_30 ?_)⟩
        have rv := hE.2.2.2.2.1.2.2 u hub
        have e1 : wthL B (ldL l x) u = wthL B (ldL l x) (min k (bN B)) := wthL_skip (by omega) (fun j h1 h2 => by
          have := hu3 j h2
          rw [hl j (by omega)] at this
          cases z : mb (ldL l x) j with
          | false => rfl
          | true => rw [z] at this; simp at this; omega)
        have e2 : wthL B (ldL l x) (u + 1) = wthL B (ldL l x) u + bV B u := by
          conv => lhs; unfold wthL smP
          rw [hu4.1]; rfl
        have e3 : min (u + 1) (bN B) = u + 1 := by omega
        have hb := hV u hub
        have hw := wthL_le hV (x := ldL l x) (n := u) (by omega)
        (try simp +decide (disch := omega) only [n_lit2, n_add, n_mul, n_tn, n_inT, n_ltT, n_ltF, n_leT, n_leF, n_eqT, n_eqF, n_eqm, n_meq, n_div, n_rem, nb_0, nb_1, nr_b, true_and, and_true, eq_self, Decidable.not_not, not_false_eq_true, not_true_eq_false, false_implies, true_implies, implies_true, Option.toList_some, Option.toList_none, List.cons_append, List.nil_append, xS_uI, xS_uL, xR_uI, xR_uL, xL_uI, xI_uL, xN_uI, xN_uL, xB_uI, xB_uL, add_nz, ge_256, and_self, XE_vs hE, rv]); (try simp (disch := omega) only [lc_eq, lc_le, lc_lt, lc_ge, lc_gt, mb_t1, mb_t0, bI_0, bI_1, n_in, n_lt, n_le, n_eq, Bool.not_eq_false, Bool.not_eq_true, Decidable.not_not, true_and, XE_vs hE, rv])
        rw [← e1, ← e2, ← e3]
        refine ih (64 - (u + 1)) (by omega) (u + 1) _ (by omega) (fun p hp => ?_)
        rw [mb_drop hu2 hu3, hl p hp]
        by_cases z1 : u + 1 ≤ p
        · simp [z1, show p ≠ u from by omega, show k ≤ p from by omega]
        · by_cases z2 : p = u
          · subst z2; simp
          · have := hu3 p (by omega)
            rw [hl p hp] at this
            rw [this]; simp [z1]
  refine e_X5_worth (r_X5_worth_0 ?_)
  (try simp +decide (disch := omega) only [n_lit2, n_add, n_mul, n_tn, n_inT, n_ltT, n_ltF, n_leT, n_leF, n_eqT, n_eqF, n_eqm, n_meq, n_div, n_rem, nb_0, nb_1, nr_b, true_and, and_true, eq_self, Decidable.not_not, not_false_eq_true, not_true_eq_false, false_implies, true_implies, implies_true, Option.toList_some, Option.toList_none, List.cons_append, List.nil_append, xS_uI, xS_uL, xR_uI, xR_uL, xL_uI, xI_uL, xN_uI, xN_uL, xB_uI, xB_uL, add_nz, ge_256, and_self, XP_s hP, XP_r2 hP, XP_r3 hP, XP_r7 hP, XP_r8 hP, XP_r9 hP, XP_r11 hP, XP_r12 hP, XP_r13 hP, XP_s1 hP, XP_s2 hP, XP_s3 hP, XP_s4 hP, XP_s5 hP, XP_s6 hP, XP_s7 hP, hL]); (try simp (disch := omega) only [lc_eq, lc_le, lc_lt, lc_ge, lc_gt, mb_t1, mb_t0, bI_0, bI_1, n_in, n_lt, n_le, n_eq, Bool.not_eq_false, Bool.not_eq_true, Decidable.not_not, true_and, XP_s hP, XP_r2 hP, XP_r3 hP, XP_r7 hP, XP_r8 hP, XP_r9 hP, XP_r11 hP, XP_r12 hP, XP_r13 hP, XP_s1 hP, XP_s2 hP, XP_s3 hP, XP_s4 hP, XP_s5 hP, XP_s6 hP, XP_s7 hP, hL])
  have e0 : wthL B (ldL l x) (min 0 (bN B)) = 0 := by rw [Nat.zero_min]; rfl
  have m0 := @main 64 0 (ldL l x) (by omega) (fun p hp => by simp) (some (.int (nI x))) none
  rw [e0] at m0
  exact m0
theorem cnt_land {B : Bd} {l : Nat → Nat} {x : Nat} (hN : bN B ≤ 36) (h0 : ∀ p, bN B ≤ p → l p = 0) : cnt (ldL l x) = landG B l x false := by
  rw [cnt_fn (N := bN B) (f := fun p => decide (l p = 1 + x)) (by omega) (fun p hp => by
    rw [mb_ldL _ _ hp]
    by_cases c : p < bN B
    · simp [c, show p < 36 from by omega]
    · simp [c, h0 p (by omega)]; omega)]
  unfold landG
  refine smP_cong (fun p hp => ?_)
  unfold landF
  by_cases c : l p = 1 + x <;> simp [c]
set_option maxHeartbeats 2000000 in
theorem x_side2 (hB : bOk B ∨ bN B = 0) (hA : XA B b s w) (hg : gOk B s) (a c : Int32)
    (q0 : ¬ vld a 2 → Q (some (.int (-nI 1))) w) (q1 : ∀ x, x < 2 → a = nI x → ∀ w', xfQ w w' → XG B s 345 w' → Q (some (.int (sideR B s x c))) w') : V_X0_side [.ref 256, .int a, .int c] w Q := by
  have hN : bN B ≤ 36 := bN36 hB
  have hV := bV99 hB
  obtain ⟨hE, hO, hG⟩ := hA
  have hP := XO_n hO
  have l0 := hg.2.2.2.1
  refine e_X0_side (r_X0_side_0 (x_isSide a (r_X0_side_4 ⟨fun c0 => ?_, fun c0 => ⟨trivial, q0 ?_⟩⟩)))
  rotate_left
  · have := bI_nn0 c0
    rw [decide_eq_false_iff_not] at this; exact this
  have c1 := bI_n0 c0
  rw [decide_eq_true_eq] at c1
  obtain ⟨x, hx, rfl⟩ := vld_ex c1
  have q := q1 x hx rfl
  clear q0 q1
  have r1 := hG.2.2.2.1 x hx
  have r2 := hG.2.2.2.2.1 x hx
  rw [XO_7 hO]
  refine ⟨fun c2 => ⟨trivial, ?_⟩, fun c2 => ?_, fun c2 => ?_, fun c2 => ?_, fun c2 => ?_, fun c2 => ?_, fun c2 => ?_, fun c2 => ?_, trivial⟩
  · have q := q w (xfQ_refl w) hG
    have ne := fun k (hk : k ≤ 6) => swOut (n := 6) (by omega) c2 hk
    rw [sideR, if_neg (ne 0 (by omega)), if_neg (ne 1 (by omega)), if_neg (ne 2 (by omega)), if_neg (ne 3 (by omega)), if_neg (ne 4 (by omega)), if_neg (ne 5 (by omega)), if_neg (ne 6 (by omega))] at q
    exact q
  · subst c2
    have q := q w (xfQ_refl w) hG
    simp +decide only [sideR, ↓reduceIte] at q
    rw [XP_r2 hP, n_tn (by omega), r1]
    refine ⟨XE_s hE, by omega, XP_s hP, by omega, by rw [XP_s1 hP], by rw [XP_s1 hP]; exact (n_in (by omega)).mpr (by omega), x_bitCount _ (r_X0_side_64 ⟨trivial, ?_⟩)⟩
    rw [cnt_side hN hg.2.1]; exact q
  · subst c2
    refine ⟨XE_s hE, by omega, XP_s hP, x_edge hB hE hP hG hg.1 hg.2.1 hx (fun w0 f0 g0 n0 => r_X0_side_73 ?_)⟩
    have q := q w0 (xfQ_of f0 (by omega)) g0
    simp +decide only [sideR, ↓reduceIte] at q
    rw [XO_7 (XO_fr f0 hO), n0]
    exact ⟨XE_s (XE_fr f0 (by omega) hE), by omega, XP_s (XP_fr f0 hP), trivial, q⟩
  · subst c2
    refine ⟨XE_s hE, by omega, XP_s hP, x_edge hB hE hP hG hg.1 hg.2.1 hx (fun w0 f0 g0 n0 => r_X0_side_90 (x_bitCount _ (r_X0_side_93 ⟨trivial, ?_⟩)))⟩
    have q := q w0 (xfQ_of f0 (by omega)) g0
    simp +decide only [sideR, ↓reduceIte] at q
    exact q
  · subst c2
    refine ⟨XE_s hE, by omega, XE_s hE, x_shut hB hE hO hP (Or.inl rfl) hG hg.1 hg.2.1 hx (fun w0 f0 _ g0 => r_X0_side_103 (x_bitCount _ (r_X0_side_106 ⟨trivial, ?_⟩)))⟩
    have q := q w0 f0 g0
    simp +decide only [sideR, ↓reduceIte] at q
    exact q
  · subst c2
    rw [XO_8 hO]
    refine ⟨XE_s hE, by omega, XE_s hE, by omega, XP_s hP, x_parts hB hE hP hG hg.1 hg.2.1 hx (by omega) (by omega) (XO_s8 hO) (fun w0 i0 f0 g0 _ _ _ => r_X0_side_119 ⟨trivial, ?_⟩)⟩
    have fq : xfQ w w0 := ⟨f0.1, ⟨f0.2.1, f0.2.2.1⟩, fun i _ hi => i0 i (by omega) (by omega), fun k _ _ => by rw [(i0 256 (by omega) (by omega)).1], (i0 256 (by omega) (by omega)).2⟩
    have q := q w0 fq g0
    simp +decide only [sideR, ↓reduceIte] at q
    exact q
  · subst c2
    have q := q w (xfQ_refl w) hG
    simp +decide only [sideR, ↓reduceIte] at q
    rw [XP_r3 hP, n_tn (by omega), r2]
    refine ⟨XE_s hE, by omega, XP_s hP, by omega, by rw [XP_s2 hP], by rw [XP_s2 hP]; exact (n_in (by omega)).mpr (by omega), x_bitCount _ (r_X0_side_132 ⟨trivial, ?_⟩)⟩
    rw [cnt_land hN l0]; exact q
  · subst c2
    have q := q w (xfQ_refl w) hG
    simp +decide only [sideR, ↓reduceIte] at q
    exact ⟨XE_s hE, by omega, XP_s hP, x_worth hN hV hE hP hx r2 l0 (r_X0_side_141 ⟨trivial, q⟩)⟩
set_option maxHeartbeats 2000000 in
theorem x_place2 (hB : bOk B ∨ bN B = 0) (hA : XA B b s w) (hg : gOk B s) (a c : Int32)
    (q0 : ¬ vld a (bN B) → Q (some (.int (-nI 1))) w) (q1 : ∀ p, p < bN B → a = nI p → ∀ w', xfQ w w' → XG B s 345 w' → Q (some (.int (placeR B s p c))) w') : V_X0_place [.ref 256, .int a, .int c] w Q := by
  have hN : bN B ≤ 36 := bN36 hB
  obtain ⟨hE, hO, hG⟩ := hA
  have hP := XO_n hO
  have h16 := hg.2.2.2.2.2.1
  refine e_X0_place (r_X0_place_0 ⟨XE_s hE, x_isPlace hN hE a (r_X0_place_5 ⟨fun c0 => ?_, fun c0 => ⟨trivial, q0 ?_⟩⟩)⟩)
  rotate_left
  · have := bI_nn0 c0
    rw [decide_eq_false_iff_not] at this; exact this
  have c1 := bI_n0 c0
  rw [decide_eq_true_eq] at c1
  obtain ⟨p, hp, rfl⟩ := vld_ex c1
  have q := q1 p hp rfl
  clear q0 q1
  have s0 := hG.2.2.2.1 0 (by omega)
  have s1 := hG.2.2.2.1 1 (by omega)
  have m0 := hG.2.2.2.2.1 0 (by omega)
  have m1 := hG.2.2.2.2.1 1 (by omega)
  rw [XO_7 hO]
  refine ⟨fun c2 => ⟨trivial, ?_⟩, fun c2 => ?_, fun c2 => ?_, fun c2 => ?_, fun c2 => ?_, fun c2 => ?_, fun c2 => ?_, fun c2 => ?_, fun c2 => ?_, trivial⟩
  · have q := q w (xfQ_refl w) hG
    have ne := fun k (hk : k ≤ 7) => swOut (n := 7) (by omega) c2 hk
    rw [placeR, if_neg (ne 0 (by omega)), if_neg (ne 1 (by omega)), if_neg (ne 2 (by omega)), if_neg (ne 3 (by omega)), if_neg (ne 4 (by omega)), if_neg (ne 5 (by omega)), if_neg (ne 6 (by omega)), if_neg (ne 7 (by omega))] at q
    exact q
  · subst c2
    have q := q w (xfQ_refl w) hG
    simp +decide only [placeR, ↓reduceIte] at q
    rw [XP_r2 hP]
    refine ⟨XE_s hE, by omega, XP_s hP, by omega, x_sideOf (f := fun p => isOfG (gS s) p 0) (g := fun p => isOfG (gS s) p 1) (XP_s1 hP) (by omega) (by rw [s0, mb_stL _ _ (by omega)]; simp; omega) (by rw [s1, mb_stL _ _ (by omega)]; simp; omega) (r_X0_place_67 ⟨trivial, ?_⟩)⟩
    unfold isOfG
    by_cases z : gS s p = 0
    · rw [if_pos z] at q; simp only [z, Nat.lt_irrefl, decide_false, Bool.false_and, Bool.false_eq_true, if_false]; exact q
    · rw [if_neg z] at q
      have z1 : 0 < gS s p := by omega
      have z2 : gS s p % 2 = 0 ∨ gS s p % 2 = 1 := by omega
      rcases z2 with z2 | z2
      · rw [z2] at q; simp only [z1, z2, decide_true, Bool.true_and, if_true]; exact q
      · rw [z2] at q; simp +decide only [z1, z2, decide_true, Bool.true_and, if_true, if_false]; exact q
  · subst c2
    have q := q w (xfQ_refl w) hG
    simp +decide only [placeR, ↓reduceIte] at q
    refine ⟨XE_s hE, by omega, XP_s hP, x_has hP hG (by omega) (r_X0_place_76 ?_)⟩
    rw [XO_7 hO, XP_r7 hP, n_tn (by omega)]
    by_cases z : gS s p = 0
    · rw [if_pos z] at q
      rw [decide_eq_false (by simp [z])]
      exact ⟨fun _ => ⟨trivial, q⟩, fun c3 => absurd rfl c3⟩
    · rw [if_neg z] at q
      rw [decide_eq_true z, hG.2.2.2.2.2.1 p (by omega) z]
      exact ⟨fun c3 => absurd c3 (by decide), fun _ => ⟨XE_s hE, by omega, XP_s hP, by omega, by rw [XP_s3 hP], by rw [XP_s3 hP]; exact (n_in (by omega)).mpr (by omega), trivial, q⟩⟩
  · subst c2
    have q := q w (xfQ_refl w) hG
    simp +decide only [placeR, ↓reduceIte] at q
    rw [XP_r3 hP]
    refine ⟨XE_s hE, by omega, XP_s hP, by omega, x_sideOf (f := fun p => decide (gL s p = 1 + 0)) (g := fun p => decide (gL s p = 1 + 1)) (XP_s2 hP) (by omega) (by rw [m0, mb_ldL _ _ (by omega)]; simp; omega) (by rw [m1, mb_ldL _ _ (by omega)]; simp; omega) (r_X0_place_104 ⟨trivial, ?_⟩)⟩
    have z := hg.2.2.1 p
    have z3 : gL s p = 0 ∨ gL s p = 1 ∨ gL s p = 2 := by omega
    rcases z3 with z3 | z3 | z3 <;> rw [z3] at q ⊢ <;> exact q
  · subst c2
    have q := q w (xfQ_refl w) hG
    simp +decide only [placeR, ↓reduceIte] at q
    rw [XE_b hE, n_tn (by omega), hE.2.2.2.2.1.2.2 p hp]
    exact ⟨XE_s hE, hE.2.1.1.1, XE_bs hE, hE.2.2.2.2.1.1.1, by rw [XE_vs hE], by rw [XE_vs hE]; exact (n_in (by omega)).mpr (by omega), trivial, q⟩
  · subst c2
    refine ⟨XE_s hE, by omega, XP_s hP, x_edge hB hE hP hG hg.1 hg.2.1 (side := 0) (by omega) (fun w0 f0 g0 _ => r_X0_place_123 ?_)⟩
    have hE0 := XE_fr f0 (by omega) hE
    have hO0 := XO_fr f0 hO
    rw [XO_7 hO0]
    refine ⟨XE_s hE0, by omega, XP_s (XO_n hO0), x_edge hB hE0 (XO_n hO0) g0 hg.1 hg.2.1 (side := 1) (by omega) (fun w1 f1 g1 _ => r_X0_place_137 ⟨trivial, ?_⟩)⟩
    have q := q w1 (xfQ_then (xfQ_of f0 (by omega)) f1 (by omega)) g1
    simp +decide only [placeR, ↓reduceIte] at q
    rw [mb_ti _ (by omega), mb_ti _ (by omega)]
    have e : nI (if mb (edgeL B (gS s) 0) p then 1 else 0) + 2 * nI (if mb (edgeL B (gS s) 1) p then 1 else 0) = nI (edgA B (gS s) p) := by
      unfold edgA
      cases mb (edgeL B (gS s) 0) p <;> cases mb (edgeL B (gS s) 1) p <;> rfl
    rw [e]; exact q
  · subst c2
    refine ⟨XE_s hE, by omega, XE_s hE, x_shut hB hE hO hP (Or.inl rfl) hG hg.1 hg.2.1 (side := 0) (by omega) (fun w0 f0 _ g0 => r_X0_place_154 ?_)⟩
    have hE0 := XE_fQ f0 hE
    have hO0 := XO_fQ f0 hO
    rw [XO_7 hO0]
    refine ⟨XE_s hE0, by omega, XE_s hE0, x_shut hB hE0 hO0 (XO_n hO0) (Or.inl rfl) g0 hg.1 hg.2.1 (side := 1) (by omega) (fun w1 f1 _ g1 => r_X0_place_169 ⟨trivial, ?_⟩)⟩
    have q := q w1 (xfQ_trans f0 f1) g1
    simp +decide only [placeR, ↓reduceIte] at q
    rw [mb_ti _ (by omega), mb_ti _ (by omega)]
    exact q
  · subst c2
    have q := q w (xfQ_refl w) hG
    simp +decide only [placeR, ↓reduceIte] at q
    refine ⟨XE_s hE, by omega, XP_s hP, x_owedPlaces hP hG h16 (r_X0_place_184 ⟨trivial, ?_⟩)⟩
    rw [mb_ti _ (by omega)]; exact q
  · subst c2
    have q := q w (xfQ_refl w) hG
    simp +decide only [placeR, ↓reduceIte] at q
    rw [XP_r8 hP, n_tn (by omega), hG.2.2.2.2.2.2.1 p (by omega)]
    exact ⟨XE_s hE, by omega, XP_s hP, by omega, by rw [XP_s4 hP], by rw [XP_s4 hP]; exact (n_in (by omega)).mpr (by omega), trivial, q⟩
end
