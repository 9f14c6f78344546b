/-! X: plays and thumbs that are asked -/
section
variable {Q : Option Value → xw → Prop} {w : xw} {B : Bd} {s t : GS} {a b : Nat} {H : List GS}
theorem x_canPlay (hB : bOk B ∨ bN B = 0) (hK : bK B ≤ 5) (hKN : 0 < bK B → bOk B) (hA : XA B b s w) (hg : gOk B s) (x : Int32)
    (q0 : ¬ canPl B s x → Q (some (.int (nI 0))) w) (q1 : ∀ n, x = nI n → 1 ≤ n → n ≤ 3 → canPl B s x → 0 < bK B → bOk B → gD s + n ≤ 200 → Q (some (.int (nI 1))) w) : V_X0_canPlay [.ref 256, .int x] w Q := by
  have hN : bN B ≤ 36 := bN36 hB
  obtain ⟨hE, hO, hG⟩ := id hA
  have hP := XO_n hO
  have hd : gD s ≤ 200 := hg.2.2.2.2.1
  have rest : ∀ mx : Int32, mx.toInt = (if bN B ≤ 20 then 3 else 2) → V_X0_is [.int x, .int 1, .int mx] w (fun v w1 => T_X0_canPlay Q 19 [some (.ref 256), some (.int x)] (v.toList ++ []) w1) := by
    intro mx hmx
    refine x_is _ _ _ (r_X0_canPlay_19 ⟨fun c => ⟨nr_0, q0 ?_⟩, fun c => ?_⟩)
    · have c := bI_e0 c
      rw [decide_eq_false_iff_not, i_1, hmx] at c
      rintro ⟨n, rfl, h1, h3, _, h20, _⟩
      rw [n_T (by omega)] at c
      apply c
      refine ⟨by omega, ?_⟩
      split <;> omega
    · have c := bI_n0 c
      rw [decide_eq_true_eq, i_1, hmx] at c
      obtain ⟨n, hn, rfl⟩ : ∃ n, (1 ≤ n ∧ n ≤ 3 ∧ (n < 3 ∨ bN B ≤ 20)) ∧ x = nI n := by
        refine ⟨x.toInt.toNat, ?_, ?_⟩
        · obtain ⟨c1, c2⟩ := c
          split at c2
          · exact ⟨by omega, by omega, Or.inr (by omega)⟩
          · exact ⟨by omega, by omega, Or.inl (by omega)⟩
        · have c2 : x.toInt ≤ 3 := by have := c.2; split at this <;> omega
          rw [← Int32.toInt_inj, n_T (by omega)]; omega
      refine ⟨XE_s hE, x_isKind hK hE 0 (r_X0_canPlay_27 ⟨fun c2 => ⟨nr_0, q0 ?_⟩, fun c2 => ?_⟩)⟩
      · have c2 := bI_e0 c2
        rw [decide_eq_false_iff_not, i_0] at c2
        rintro ⟨_, _, _, _, h0, _⟩
        exact c2 ⟨by omega, by omega⟩
      · have c2 := bI_n0 c2
        rw [decide_eq_true_eq, i_0] at c2
        have h0 : 0 < bK B := by omega
        have hB1 := hKN h0
        have hpos : 0 < bN B := by
          have := Nat.mul_pos (show 0 < bW B by have := hB1.1; omega) (show 0 < bH B by have := hB1.2.2.1; omega)
          exact this
        have r0 := hG.1
        refine ⟨XE_s hE, x_placeMany hE (r_X0_canPlay_34 ?_)⟩
        (try simp +decide (disch := omega) only [n_lit2, n_add, n_mul, n_tn, n_inT, n_ltT, n_ltF, n_leT, n_leF, n_eqT, n_eqF, n_eqm, n_meq, n_div, n_rem, nb_0, nb_1, nr_b, true_and, and_true, eq_self, Decidable.not_not, not_false_eq_true, not_true_eq_false, false_implies, true_implies, implies_true, Option.toList_some, Option.toList_none, List.cons_append, List.nil_append, xS_uI, xS_uL, xR_uI, xR_uL, xL_uI, xI_uL, xN_uI, xN_uL, xB_uI, xB_uL, add_nz, ge_256, and_self, XE_s hE, XO_7 hO, XP_s hP, r0]); (try simp (disch := omega) only [lc_eq, lc_le, lc_lt, lc_ge, lc_gt, mb_t1, mb_t0, bI_0, bI_1, n_in, n_lt, n_le, n_eq, Bool.not_eq_false, Bool.not_eq_true, Decidable.not_not, true_and, XE_s hE, XO_7 hO, XP_s hP, r0])
        refine ⟨fun c3 => q0 ?_, fun c3 => ?_⟩
        · rintro ⟨m, em, _, _, _, _, h2⟩
          have := (n_eq (by omega) (by omega)).mp em
          omega
        · exact q1 n rfl hn.1 hn.2.1 ⟨n, rfl, hn.1, hn.2.1, h0, hn.2.2, by omega⟩ h0 hB1 (by omega)
  refine e_X0_canPlay (r_X0_canPlay_0 ⟨XE_s hE, x_placeMany hE (r_X0_canPlay_6 ?_)⟩)
  have z20 : (20 : Int32) = nI 20 := rfl
  rw [z20, n_le (by omega) (by omega)]
  refine ⟨fun c => rest 3 (by rw [if_pos c]; rfl), fun c => rest 2 (by rw [if_neg c]; rfl)⟩
theorem x_play (hB : bOk B ∨ bN B = 0) (hK : bK B ≤ 5) (hKN : 0 < bK B → bOk B) (hA : XA B b s w) (hg : gOk B s) (x y : Int32)
    (q0 : ¬ (canPl B s x ∧ vld y 2) → Q (some (.int (-nI 1000000000))) w) (q1 : ∀ n, x = nI n → 1 ≤ n → n ≤ 3 → canPl B s x → vld y 2 → ∀ w', xfQ w w' → XG B s 345 w' → Q (some (.int (playR B s n y))) w') : V_X0_play [.ref 256, .int x, .int y] w Q := by
  have hN : bN B ≤ 36 := bN36 hB
  obtain ⟨hE, hO, hG⟩ := id hA
  have hP := XO_n hO
  have hd : gD s ≤ 200 := hg.2.2.2.2.1
  have h16 := hg.2.2.2.2.2.1
  refine e_X0_play (r_X0_play_0 ⟨XE_s hE, x_canPlay hB hK hKN hA hg x (fun h => r_X0_play_5 ⟨fun _ => ⟨trivial, q0 (fun z => h z.1)⟩, fun z => absurd rfl z⟩) (fun n en h1 h3 hc h0 hB1 h200 => r_X0_play_5 ⟨fun z => absurd z (by decide), fun _ => x_is _ _ _ (r_X0_play_14 ⟨fun c => ?_, fun c => ⟨trivial, q0 (fun z => ?_)⟩⟩)⟩)⟩)
  rotate_left
  · have c := bI_nn0 c
    rw [decide_eq_false_iff_not, i_0, i_1] at c
    have := z.2
    unfold vld at this
    omega
  have c := bI_n0 c
  rw [decide_eq_true_eq, i_0, i_1] at c
  have hy : vld y 2 := ⟨c.1, by omega⟩
  subst en
  have q := q1 n rfl h1 h3 hc hy
  clear q0 q1
  obtain ⟨r0, p0⟩ := hO.2.2.2.2.1 0 (by omega)
  have r0 : xR w 683 0 = 685 := r0
  have p0 : XP 685 w := p0
  have e0 : Int32.toNatClampNeg 0 = 0 := by decide
  rw [XO_12 hO, XO_7 hO, e0, r0]
  refine ⟨XE_s hE, by omega, by rw [XO_s12 hO]; omega, by rw [XO_s12 hO]; exact (n_in (a := 0) (by omega)).mpr (by omega), by omega, XE_s hE, by omega, XP_s p0, x_copy p0 hP (by omega) hG h16 (fun w1 f1 g1 => r_X0_play_34 ?_)⟩
  have hE1 := XE_fr f1 (by omega) hE
  have hO1 := XO_fr f1 hO
  have hG1 := XG_fr f1 (by omega) hG
  rw [XO_7 hO1]
  refine ⟨XE_s hE1, by omega, XP_s (XO_n hO1), x_side (XO_n hO1) hG1 (by omega) (r_X0_play_44 ⟨XE_s hE1, ?_⟩)⟩
  refine x_plays hB1 h0 (by omega) n 10 (by omega) 0 s w1 _ (by omega) hE1 hO1 g1 hg h200 (fun w2 f2 h2 => r_X0_play_47 ?_)
  have hE2 := XE_fQ (xfQ_D f2) hE1
  have hO2 := XO_fQ (xfQ_D f2) hO1
  have q := q w2 (xfQ_trans (xfQ_of f1 (by omega)) (xfQ_D f2)) (XG_D f2 (by omega) hG1)
  unfold playR at q
  rw [XO_13 hO2, e0, h2 h1]
  refine ⟨fun c2 => ⟨XE_s hE2, by omega, by rw [XO_s13 hO2], by rw [XO_s13 hO2]; exact (n_in (a := 0) (by omega)).mpr (by omega), trivial, ?_⟩, fun c2 => ⟨trivial, ?_⟩⟩
  · rw [if_neg (show ¬ y = nI 0 from c2)] at q; exact q
  · rw [if_pos (show y = nI 0 from Decidable.not_not.mp c2)] at q; exact q
theorem goG_S {B : Bd} {s : GS} {k p : Nat} : gS (goG B s k (some p)) = upN (gS s) p (2 + 2 * k + gD s % 2) := rfl
theorem x_pointsOf (hB : bOk B) (hK0 : 0 < bK B) (hA : XA B b s w) (hg : gOk B s) (h200 : gD s < 200) {r p : Nat} (hr : r ≤ 2) (hp : p < bN B) (hf : gS s p = 0)
    (q : ∀ w', xfQ w w' → XG B s 345 w' → Q (some (.int (twR B s r p))) w') : V_X0_pointsOf [.ref 256, .int (nI r), .int (nI p)] w Q := by
  have hN := hB.2.2.2.2.1
  have hK := hB.2.2.2.2.2.1
  obtain ⟨hE, hO, hG⟩ := id hA
  have hP := XO_n hO
  have hT := XO_t hO
  have h16 := hg.2.2.2.2.2.1
  have z0 : (0 : Int32) = nI 0 := rfl
  have z2 : (2 : Int32) = nI 2 := rfl
  refine e_X0_pointsOf (r_X0_pointsOf_0 ?_)
  rw [z2, n_le (by omega) (by omega), z0, n_eq (by omega) (by omega), XO_11 hO, XO_7 hO]
  have thr : ∀ c : Nat, c ≤ 2 → (∀ w', xfQ w w' → XG B s 345 w' → Q (some (.int (threatR B s 0 p (nI c)))) w') → V_X0_threat [.ref 256, .int (nI 0), .int (nI p), .int (nI c)] w (fun v w1 => T_X0_pointsOf Q 20 [some (.ref 256), some (.int (nI r)), some (.int (nI p))] (v.toList ++ []) w1) := by
    intro c hc qq
    refine x_threat (Or.inl hB) hK hA hg _ _ _ (fun h => ?_) (fun k' p' _ ek _ ep _ _ _ w1 f1 g1 => r_X0_pointsOf_20 ⟨trivial, ?_⟩)
    · exact absurd ⟨⟨vld_n hK0 (by omega), vld_n hp (by omega), by rw [n_tn (by omega)]; exact hf, h200⟩, vld_n (by omega) (by omega)⟩ h
    · have ek' : k' = 0 := ((n_eq (by omega) (by omega)).mp ek).symm
      have ep' : p' = p := ((n_eq (by omega) (by omega)).mp ep).symm
      subst ek' ep'
      exact qq w1 f1 g1
  refine ⟨fun c => ?_, fun c => ⟨fun c2 => ⟨XE_s hE, ?_⟩, fun c2 => ⟨XE_s hE, ?_⟩⟩⟩
  · have e2 : r = 2 := by omega
    subst e2
    refine ⟨XE_s hE, by omega, XE_s hE, by omega, XP_s hT, x_copy hT hP (by omega) hG h16 (fun w1 f1 g1 => r_X0_pointsOf_32 ?_)⟩
    have hE1 := XE_fr f1 (by omega) hE
    have hO1 := XO_fr f1 hO
    have hG1 := XG_fr f1 (by omega) hG
    rw [XO_11 hO1, show nI p = plI (some p) from rfl]
    refine ⟨XE_s hE1, by omega, XP_s (XO_t hO1), x_goes (k := 0) (Or.inl hB) hE1 (XO_t hO1) g1 hg (some p) (fun p' h => by cases h; exact ⟨hp, hK0, rfl, hf⟩) (fun w2 f2 g2 => r_X0_pointsOf_41 ?_)⟩
    have hE2 := XE_fr f2 (by omega) hE1
    have hO2 := XO_fr f2 hO1
    have hG2 := XG_fr f2 (by omega) hG1
    have go2 := goOk_all hB s 0 (some p) hg h200 (fun p' h => by cases h; exact ⟨hp, hK0⟩)
    rw [XO_11 hO2, XO_7 hO2]
    refine ⟨XE_s hE2, by omega, XE_s hE2, by omega, XP_s (XO_n hO2), x_side (XO_n hO2) hG2 (by omega) (r_X0_pointsOf_52 ⟨XP_s (XO_t hO2), x_edge (Or.inl hB) hE2 (XO_t hO2) g2 go2.1 go2.2.1 (by omega) (fun w3 f3 g3 _ => r_X0_pointsOf_55 (x_bitCount _ (r_X0_pointsOf_58 ?_)))⟩)⟩
    have hE3 := XE_fr f3 (by omega) hE2
    have hO3 := XO_fr f3 hO2
    have hG3 := XG_fr f3 (by omega) hG2
    rw [XO_7 hO3]
    refine ⟨XE_s hE3, by omega, XE_s hE3, by omega, XP_s (XO_n hO3), x_side (XO_n hO3) hG3 (by omega) (r_X0_pointsOf_69 ⟨XP_s (XO_n hO3), x_edge (Or.inl hB) hE3 (XO_n hO3) hG3 hg.1 hg.2.1 (by omega) (fun w4 f4 g4 _ => r_X0_pointsOf_72 (x_bitCount _ (r_X0_pointsOf_75 ⟨trivial, ?_⟩)))⟩)⟩
    have q := q w4 (xfQ_then (xfQ_then (xfQ_then (xfQ_of f1 (by omega)) f2 (by omega)) f3 (by omega)) f4 (by omega)) g4
    unfold twR at q
    rw [if_neg (by omega), if_neg (by omega)] at q
    rw [goG_S, show 2 + 2 * 0 + gD s % 2 = 2 + gD s % 2 from by omega]
    exact q
  · have e1 : r = 1 := by omega
    subst e1
    refine thr 0 (by omega) (fun w1 f1 g1 => ?_)
    have q := q w1 f1 g1
    unfold twR at q
    rw [if_neg (by omega), if_pos rfl] at q
    unfold threatR
    rw [if_pos rfl]; exact q
  · rw [Decidable.not_not] at c2
    subst c2
    refine thr 2 (by omega) (fun w1 f1 g1 => ?_)
    have q := q w1 f1 g1
    unfold twR at q
    rw [if_pos rfl] at q
    unfold threatR
    rw [if_neg (by decide), if_neg (by decide)]; exact q
theorem x_thumbOf (hB : bOk B) (hK0 : 0 < bK B) (hA : XA B b s w) (hg : gOk B s) (h200 : gD s < 200) {r : Nat} (hr : r ≤ 2)
    (q : ∀ w', xfQ w w' → XG B s 345 w' → Q (some (.int (plI (thF (thV B s r) (bN B)).1))) w') : V_X0_thumbOf [.ref 256, .int (nI r)] w Q := by
  have hN := hB.2.2.2.2.1
  refine e_X0_thumbOf (r_X0_thumbOf_0 ?_)
  refine upTo (bN B) (fun p (w1 : xw) => xfQ w w1 ∧ XG B s 345 w1)
    (fun p w1 => ∀ {o5 : Option Value}, T_X0_thumbOf Q 7 [some (.ref 256), some (.int (nI r)), some (.int (plI (thF (thV B s r) p).1)), some (.int (thF (thV B s r) p).2), some (.int (nI p)), o5] [] w1) ?_ ?_ 0 w (by omega) ⟨xfQ_refl w, hA.2.2⟩
  · intro w1 ⟨f1, g1⟩ o5
    have hE1 := XE_fQ f1 hA.1
    exact r_X0_thumbOf_7 ⟨XE_s hE1, x_placeMany hE1 (r_X0_thumbOf_13 ⟨fun _ => ⟨trivial, q w1 f1 g1⟩, fun z => absurd (Int32.le_refl _) z⟩)⟩
  · intro p w1 hp ⟨f1, g1⟩ next o5
    have hA1 := XA_fQ f1 hA g1
    have ep : nI p + 1 = nI (p + 1) := n_add _ 1
    have st : ∀ w2, xfQ w w2 → XG B s 345 w2 → ∀ x : Int32, x = thV B s r p → ∀ {o5 : Option Value}, T_X0_thumbOf Q 39 [some (.ref 256), some (.int (nI r)), some (.int (plI (thF (thV B s r) p).1)), some (.int (thF (thV B s r) p).2), some (.int (nI p)), o5] [.int x] w2 := by
      intro w2 f2 g2 x hx o5
      have es : thF (thV B s r) (p + 1) = if (thF (thV B s r) p).2 < thV B s r p then (some p, thV B s r p) else thF (thV B s r) p := rfl
      refine r_X0_thumbOf_39 ?_
      rw [hx, ep]
      refine ⟨fun c => ?_, fun c => ?_⟩
      · rw [if_pos c] at es
        have := next w2 ⟨f2, g2⟩ (o5 := some (.int (thV B s r p)))
        rw [es] at this; exact this
      · rw [if_neg c] at es
        have := next w2 ⟨f2, g2⟩ (o5 := some (.int (thV B s r p)))
        rw [es] at this; exact this
    refine r_X0_thumbOf_7 ⟨XE_s hA1.1, x_placeMany hA1.1 (r_X0_thumbOf_13 ⟨fun z => by rw [n_le (by omega) (by omega)] at z; omega, fun _ => ?_⟩)⟩
    rw [XO_7 hA1.2.1]
    refine ⟨XE_s hA1.1, by omega, XP_s (XO_n hA1.2.1), x_has (XO_n hA1.2.1) g1 (by omega) (r_X0_thumbOf_25 ?_)⟩
    by_cases z : gS s p = 0
    · rw [decide_eq_false (by simp [z])]
      refine ⟨fun _ => ⟨XE_s hA1.1, x_pointsOf hB hK0 hA1 hg h200 hr hp z (fun w2 f2 g2 => st w2 (xfQ_trans f1 f2) g2 _ ?_)⟩, fun z => absurd rfl z⟩
      unfold thV; rw [if_pos z]
    · rw [decide_eq_true z]
      refine ⟨fun z => absurd z (by decide), fun _ => st w1 f1 g1 _ ?_⟩
      unfold thV; rw [if_neg z]
theorem thF_free {B : Bd} {s : GS} {r n p : Nat} (h : (thF (thV B s r) n).1 = some p) : gS s p = 0 := by
  induction n with
  | zero => cases h
  | succ n ih =>
    have es : thF (thV B s r) (n + 1) = if (thF (thV B s r) n).2 < thV B s r n then (some n, thV B s r n) else thF (thV B s r) n := rfl
    rw [es] at h
    split at h
    · rename_i c
      cases h
      apply Classical.byContradiction
      intro z
      have : thV B s r p = 0 := by unfold thV; rw [if_neg z]
      rw [this] at c
      exact absurd c (Int32.not_lt.mpr (thF_pos _ _))
    · exact ih h
theorem x_thumb (hB : bOk B ∨ bN B = 0) (hK : bK B ≤ 5) (hKN : 0 < bK B → bOk B) (hA : XA B b s w) (hg : gOk B s) (x y c : Int32)
    (q0 : ¬ (vld x 3 ∧ canPl B s y ∧ vld c 2) → Q (some (.int (-nI 1000000000))) w) (q1 : ∀ r n, x = nI r → r ≤ 2 → y = nI n → 1 ≤ n → n ≤ 3 → canPl B s y → vld c 2 → ∀ w', xfQ w w' → XG B s 345 w' → Q (some (.int (thumbR B s r n c))) w') : V_X0_thumb [.ref 256, .int x, .int y, .int c] w Q := by
  have hN : bN B ≤ 36 := bN36 hB
  obtain ⟨hE, hO, hG⟩ := id hA
  have h16 := hg.2.2.2.2.2.1
  have i2 : (2 : Int32).toInt = 2 := rfl
  refine e_X0_thumb (r_X0_thumb_0 ⟨XE_s hE, x_canPlay hB hK hKN hA hg y (fun h => r_X0_thumb_5 ⟨fun _ => ⟨trivial, q0 (fun z => h z.2.1)⟩, fun z => absurd rfl z⟩) (fun n en h1 h3 hc h0 hB1 h200 => r_X0_thumb_5 ⟨fun z => absurd z (by decide), fun _ => x_is _ _ _ (r_X0_thumb_14 ⟨fun c1 => ⟨trivial, q0 (fun z => ?_)⟩, fun c1 => x_is _ _ _ (r_X0_thumb_23 ⟨fun c2 => ?_, fun c2 => ⟨trivial, q0 (fun z => ?_)⟩⟩)⟩)⟩)⟩)
  · have c1 := bI_e0 c1
    rw [decide_eq_false_iff_not, i_0, i2] at c1
    have := z.1
    unfold vld at this
    omega
  rotate_left
  · have c2 := bI_nn0 c2
    rw [decide_eq_false_iff_not, i_0, i_1] at c2
    have := z.2.2
    unfold vld at this
    omega
  have c1 := bI_n0 c1
  rw [decide_eq_true_eq, i_0, i2] at c1
  have c2 := bI_n0 c2
  rw [decide_eq_true_eq, i_0, i_1] at c2
  obtain ⟨r, hr, rfl⟩ := vld_ex (a := x) (n := 3) ⟨c1.1, by omega⟩
  subst en
  have q := q1 r n rfl (by omega) rfl h1 h3 hc ⟨c2.1, by omega⟩
  clear q0 q1
  refine ⟨XE_s hE, x_thumbOf hB1 h0 hA hg (by omega) (by omega) (fun w1 f1 g1 => r_X0_thumb_35 ?_)⟩
  have hA1 := XA_fQ f1 hA g1
  obtain ⟨hE1, hO1, hG1⟩ := id hA1
  obtain ⟨r0, p0⟩ := hO1.2.2.2.2.1 0 (by omega)
  have r0 : xR w1 683 0 = 685 := r0
  have p0 : XP 685 w1 := p0
  have e0 : Int32.toNatClampNeg 0 = 0 := by decide
  rw [XO_12 hO1, XO_7 hO1, e0, r0]
  unfold thumbR at q
  refine ⟨fun c3 => ⟨XE_s hE1, by omega, by rw [XO_s12 hO1]; omega, by rw [XO_s12 hO1]; exact (n_in (a := 0) (by omega)).mpr (by omega), by omega, XE_s hE1, by omega, XP_s p0, x_copy p0 (XO_n hO1) (by omega) hG1 h16 (fun w2 f2 g2 => r_X0_thumb_57 ?_)⟩, fun c3 => ⟨trivial, ?_⟩⟩
  rotate_left
  · have q := q w1 f1 g1
    rw [if_pos (show c = nI 0 from Decidable.not_not.mp c3)] at q; exact q
  rw [if_neg (show ¬ c = nI 0 from c3)] at q
  have hE2 := XE_fr f2 (by omega) hE1
  have hO2 := XO_fr f2 hO1
  have hG2 := XG_fr f2 (by omega) hG1
  rw [XO_7 hO2]
  refine ⟨XE_s hE2, by omega, XP_s (XO_n hO2), x_side (XO_n hO2) hG2 (by omega) (r_X0_thumb_67 ⟨XE_s hE2, ?_⟩)⟩
  refine x_plays hB1 h0 (by omega) n 10 (by omega) 0 s w2 _ (by omega) hE2 hO2 g2 hg h200 (fun w3 f3 _ => r_X0_thumb_70 ?_)
  have hE3 := XE_fQ (xfQ_D f3) hE2
  have hO3 := XO_fQ (xfQ_D f3) hO2
  have hG3 := XG_D f3 (by omega) hG2
  rw [XO_7 hO3]
  refine ⟨XE_s hE3, by omega, XP_s (XO_n hO3), x_side (XO_n hO3) hG3 (by omega) (r_X0_thumb_86 ⟨XE_s hE3, ?_⟩)⟩
  obtain ⟨m, rfl⟩ : ∃ m, n = m + 1 := ⟨n - 1, by omega⟩
  refine x_playsOn (d := 9) (at_ := 0) hB1 h0 (x_plays hB1 h0 (by omega) m 9 (by omega)) (by omega) hE3 hO3 (XG_D f3 (by omega) g2) hg (by omega) (thF (thV B s r) (bN B)).1 (fun p h => ⟨thF_lt h, thF_free h⟩) (fun w4 f4 _ => r_X0_thumb_89 ⟨trivial, ?_⟩)
  have q := q w4 (xfQ_trans f1 (xfQ_trans (xfQ_of f2 (by omega)) (xfQ_trans (xfQ_D f3) (xfQ_D f4)))) (XG_D f4 (by omega) hG3)
  rw [show m + 1 - 1 = m from by omega] at q
  exact q
end
