/-! X: hidden, look -/
section
variable {Q : Option Value → xw → Prop} {w : xw} {B : Bd} {s t : GS} {a b : Nat} {H : List GS}
abbrev flG (B : Bd) (s : GS) (set : Int64) : List Nat := hfL set (gS s) (bN B)
set_option maxHeartbeats 2000000 in
/-- the ways, one by one -/
theorem x_hides2 (hB : bOk B) (hK0 : 0 < bK B) (hA : XA B b s w) (hg : gOk B s) {set : Int64} {fl : List Nat} (hfl : fl = flG B s set) (hl : fl.length ≤ 12) (hF : XFr fl w) {side many told : Nat} (h2 : side < 2) (hm : many ≤ 3) (ht : told < bN B) (z19 : xI w 256 19 = nI 0) (z792 : ∀ k, k < fl.length → xI w 792 k = nI 0)
    (q : ∀ w', xfQ w w' → XG B s 345 w' → XFr fl w' → xI w' 256 19 = nI (hwA B (gS s) fl side many told (2 ^ fl.length)) → (∀ k, k < fl.length → xI w' 792 k = nI (hwK B (gS s) fl side many told k (2 ^ fl.length))) → Q (some (.int (nI 1))) w') : ∀ {o1 o2 o6 o7 : Option Value}, T_X0_hides Q 157 [some (.ref 256), o1, o2, some (.int (nI side)), some (.int (nI many)), some (.int (nI told)), o6, o7, some (.int (nI 0))] [] w := by
  have hp12 := pw_lt hl
  have hmem : ∀ k, k < fl.length → fl.getD k 0 < bN B ∧ gS s (fl.getD k 0) = 0 := fun k hk => by
    have := getD_mem hk
    rw [hfl] at this
    have := hfL_mem.mp this
    rw [hfl]; exact ⟨this.1, this.2.2⟩
  have hsrt : fl.Pairwise (fun a b => a < b) := by rw [hfl]; exact hfL_srt _ _ _
  intro o1 o2 o6 o7
  refine upTo (2 ^ fl.length) (fun v (w1 : xw) => xfQ w w1 ∧ XG B s 345 w1 ∧ XFr fl w1 ∧ xI w1 256 19 = nI (hwA B (gS s) fl side many told v) ∧ ∀ k, k < fl.length → xI w1 792 k = nI (hwK B (gS s) fl side many told k v))
    (fun v w1 => ∀ {o1 o2 o6 o7 : Option Value}, T_X0_hides Q 157 [some (.ref 256), o1, o2, some (.int (nI side)), some (.int (nI many)), some (.int (nI told)), o6, o7, some (.int (nI v))] [] w1) ?_ ?_ 0 w (Nat.zero_le _) ⟨xfQ_refl w, hA.2.2, hF, z19, z792⟩
  · intro w1 ⟨f1, g1, x1, a1, c1⟩ o1 o2 o6 o7
    have hE1 := XE_fQ f1 hA.1
    refine r_X0_hides_157 ?_
    rw [x1.1, i_pow hl]
    exact ⟨XE_s hE1, fun _ => ⟨nr_1, q w1 f1 g1 x1 a1 c1⟩, fun z => absurd (Int32.le_refl _) z⟩
  · intro v w1 hv ⟨f1, g1, x1, a1, c1⟩ next o1 o2 o6 o7
    have hA1 := XA_fQ f1 hA g1
    have ev : nI v + 1 = nI (v + 1) := n_add _ 1
    have pl := pcN_le v
    have eA : hwA B (gS s) fl side many told (v + 1) = hwA B (gS s) fl side many told v + (if hwF B (gS s) fl side many told v = true then 1 else 0) := rfl
    have eK : ∀ k, hwK B (gS s) fl side many told k (v + 1) = hwK B (gS s) fl side many told k v + (if (hwF B (gS s) fl side many told v && v.testBit k) = true then 1 else 0) := fun k => rfl
    have no : hwF B (gS s) fl side many told v = false → ∀ w2, xfQ w w2 → XG B s 345 w2 → XFr fl w2 → xI w2 256 19 = xI w1 256 19 → xI w2 792 = xI w1 792 → ∀ {o1 o2 o6 o7 : Option Value}, T_X0_hides Q 196 [some (.ref 256), o1, o2, some (.int (nI side)), some (.int (nI many)), some (.int (nI told)), o6, o7, some (.int (nI v))] [] w2 := by
      intro hz w2 f2 g2 x2 i1 i2 o1 o2 o6 o7
      refine r_X0_hides_196 ?_
      rw [ev]
      refine next w2 ⟨f2, g2, x2, ?_, fun k hk => ?_⟩
      · rw [i1, eA, hz]; exact a1
      · rw [i2, eK, hz]; exact c1 k hk
    refine r_X0_hides_157 ?_
    rw [x1.1, i_pow hl]
    refine ⟨XE_s hA1.1, fun z => by rw [n_le (by omega) (by omega)] at z; omega, fun _ => x_bitCount32 (by omega) (r_X0_hides_173 ?_)⟩
    rw [n_eq (by omega) (by omega)]
    refine ⟨fun c => no (by unfold hwF; rw [decide_eq_false c]; rfl) w1 f1 g1 x1 rfl rfl, fun c => ⟨XE_s hA1.1, ?_⟩⟩
    rw [Decidable.not_not] at c
    refine x_isWay hB hK0 hA1 hg hl x1 hsrt hmem (by omega) h2 ht (fun w2 fw g2 => r_X0_hides_187 ?_)
    have f2 : xfQ w w2 := xfQ_trans f1 (xfW_Q fw (fun _ _ _ => trivial))
    have x2 : XFr fl w2 := ⟨by rw [(fw.2.2 256 (by omega) (by omega)).1]; exact x1.1, fun k hk => by rw [(fw.2.2 791 (by omega) (by omega)).1]; exact x1.2 k hk⟩
    have i19 : xI w2 256 19 = xI w1 256 19 := by rw [(fw.2.2 256 (by omega) (by omega)).1]
    have i792 : xI w2 792 = xI w1 792 := (fw.2.2 792 (by omega) (by omega)).1
    have hA2 := XA_fQ f2 hA g2
    cases zz : wayOk B (gS s) fl side told v with
    | false =>
      refine ⟨fun _ => no (by unfold hwF; rw [zz, Bool.and_false]) w2 f2 g2 x2 i19 i792, fun z => absurd rfl z⟩
    | true =>
      have hwf : hwF B (gS s) fl side many told v = true := by unfold hwF; rw [zz, decide_eq_true c]; rfl
      refine ⟨fun z => absurd z (by decide), fun _ => ⟨XE_s hA2.1, x_counts hA2.1 hA2.2.1 hl (by omega) x2.1 (fun w3 f3 i3 l3 a3 b3 c3 => r_X0_hides_196 ?_)⟩⟩
      rw [ev]
      have g3 : XG B s 345 w3 := by
        obtain ⟨q1, q2, q3, q4, q5, q6, q7, q8, q9, q10⟩ := g2
        exact ⟨by rw [i3 _ (by omega) (by omega)]; exact q1, by rw [i3 _ (by omega) (by omega)]; exact q2, by rw [l3]; exact q3, by rw [l3]; exact q4, by rw [l3]; exact q5, by rw [i3 _ (by omega) (by omega)]; exact q6, by rw [i3 _ (by omega) (by omega)]; exact q7, by rw [l3]; exact q8, by rw [l3]; exact q9, by rw [l3]; exact q10⟩
      refine next w3 ⟨xfQ_trans f2 f3, g3, ⟨a3, fun k hk => by rw [i3 791 (by omega) (by omega)]; exact x2.2 k hk⟩, ?_, fun k hk => ?_⟩
      · rw [b3, i19, a1, eA, hwf]; exact n_add _ 1
      · rw [c3 k hk, i792, c1 k hk, eK, hwf, Bool.true_and, n_add]
set_option maxHeartbeats 2000000 in
theorem x_hides (hB : bOk B ∨ bN B = 0) (hK : bK B ≤ 5) (hA : XA B b s w) (hg : gOk B s) (set : Int64) (x y c : Int32)
    (q0 : ¬ hidOk B s set x y c → Q (some (.int (nI 0))) w)
    (q1 : ∀ side many told, x = nI side → side < 2 → y = nI many → 1 ≤ many → many ≤ 3 → c = nI told → told < bN B → hidOk B s set x y c → ∀ w', xfQ w w' → XG B s 345 w' → XFr (flG B s set) w' → xI w' 256 19 = nI (hwA B (gS s) (flG B s set) side many told (2 ^ (flG B s set).length)) → (∀ k, k < (flG B s set).length → xI w' 792 k = nI (hwK B (gS s) (flG B s set) side many told k (2 ^ (flG B s set).length))) → Q (some (.int (nI 1))) w') : V_X0_hides [.ref 256, .long set, .int x, .int y, .int c] w Q := by
  have hN : bN B ≤ 36 := bN36 hB
  obtain ⟨hE, hO, hG⟩ := id hA
  have hP := XO_n hO
  have i3 : (3 : Int32).toInt = 3 := rfl
  have z0 : (0 : Int32) = nI 0 := rfl
  refine e_X0_hides (r_X0_hides_0 ⟨XE_s hE, x_isKind hK hE 0 (r_X0_hides_5 ⟨fun c1 => ⟨nr_0, q0 (fun z => ?_)⟩, fun c1 => ⟨XE_s hE, x_isPlace hN hE c (r_X0_hides_14 ⟨fun c2 => ⟨nr_0, q0 (fun z => ?_)⟩, fun c2 => x_isSide x (r_X0_hides_21 ⟨fun c3 => ⟨nr_0, q0 (fun z => ?_)⟩, fun c3 => x_is _ _ _ (r_X0_hides_31 ⟨fun c4 => ⟨nr_0, q0 (fun z => ?_)⟩, fun c4 => ?_⟩)⟩)⟩)⟩⟩)⟩)
  · have c1 := bI_e0 c1
    rw [decide_eq_false_iff_not, i_0] at c1
    have := z.1
    omega
  · have c2 := bI_e0 c2
    rw [decide_eq_false_iff_not] at c2
    exact c2 z.2.2.2.2.2.1
  · have c3 := bI_e0 c3
    rw [decide_eq_false_iff_not] at c3
    exact c3 z.2.2.2.1
  · have c4 := bI_e0 c4
    rw [decide_eq_false_iff_not, i_1, i3] at c4
    exact c4 z.2.2.2.2.1
  have c1 := bI_n0 c1
  rw [decide_eq_true_eq, i_0] at c1
  have c2 := bI_n0 c2
  rw [decide_eq_true_eq] at c2
  have c3 := bI_n0 c3
  rw [decide_eq_true_eq] at c3
  have c4 := bI_n0 c4
  rw [decide_eq_true_eq, i_1, i3] at c4
  obtain ⟨told, ht, rfl⟩ := vld_ex c2
  obtain ⟨side, hsd, rfl⟩ := vld_ex c3
  obtain ⟨many, ⟨hm1, hm3⟩, rfl⟩ : ∃ m, (1 ≤ m ∧ m ≤ 3) ∧ y = nI m := ⟨y.toInt.toNat, by omega, by rw [← Int32.toInt_inj, n_T (by omega)]; omega⟩
  have hK0 : 0 < bK B := by omega
  have hB1 : bOk B := hB.elim id (fun h => by exfalso; omega)
  have neg : set < 0 → ¬ hidIn set (bN B) := fun h z => by
    have := z 63 (by omega) (by omega)
    rw [(mb_neg set).mp h] at this; cases this
  rw [z0, lc_lt]
  refine ⟨fun c5 => ⟨nb_0, q0 (fun z => neg c5 z.2.2.1)⟩, fun c5 => ⟨XE_s hE, x_placeMany hE (r_X0_hides_46 ?_)⟩⟩
  rw [z0, lc_lt]
  have lb := lt_b1 (x := set) hN c5
  refine ⟨fun c6 => ?_, fun c6 => ⟨nb_0, q0 (fun z => c6 (lb.mpr z.2.2.1))⟩⟩
  have hin := lb.mp c6
  rw [XO_7 hO]
  refine ⟨XE_s hE, by omega, XP_s hP, x_all hP hG (r_X0_hides_61 (x_bitCount _ (r_X0_hides_73 ?_)))⟩
  have hc : cnt (set &&& (allL (gS s) ^^^ (-1))) = (flG B s set).length := by
    rw [hfL_len]
    exact cnt_fn (N := bN B) (f := fun p => mb set p && decide (gS s p = 0)) (by omega) (fun p hp => mb_open hN hin hp)
  have hlen64 := cnt_le (set &&& (allL (gS s) ^^^ (-1)))
  rw [hc] at hlen64 ⊢
  have z12 : (12 : Int32) = nI 12 := rfl
  rw [z12, n_le (by omega) (by omega)]
  refine ⟨fun c7 => ⟨XE_s hE, by omega, ?_⟩, fun c7 => ⟨nb_0, q0 (fun z => c7 z.2.2.2.2.2.2)⟩⟩
  have ok : hidOk B s set (nI side) (nI many) (nI told) := ⟨hK0, by omega, hin, c3, c4, c2, c7⟩
  have q := q1 side many told rfl hsd rfl hm1 hm3 rfl ht ok
  clear q0 q1
  have mo := fun p (hp : p < 64) => mb_open (st := gS s) hN hin hp
  generalize set &&& (allL (gS s) ^^^ (-1)) = opn at *
  have lenm : ∀ p, p ≤ bN B → (hfL set (gS s) p).length ≤ 12 := fun p hp => by
    rw [hfL_len]
    have := smP_mono (f := fun p => if (mb set p && decide (gS s p = 0)) = true then 1 else 0) hp
    rw [← hfL_len, ← hfL_len] at this
    rw [← hfL_len]
    exact Nat.le_trans this c7
  refine upTo (bN B) (fun p (w1 : xw) => xfQ w w1 ∧ XG B s 345 w1 ∧ XFr (hfL set (gS s) p) w1 ∧ ∀ k, k < (hfL set (gS s) p).length → xI w1 792 k = nI 0)
    (fun p w1 => ∀ {o1 o2 o7 : Option Value}, T_X0_hides Q 88 [some (.ref 256), o1, o2, some (.int (nI side)), some (.int (nI many)), some (.int (nI told)), some (.long opn), o7, some (.int (nI p))] [] w1) ?_ ?_ 0 _ (by omega) ⟨xfQ_uO _ (Or.inl rfl), XG_u (by omega) hG, ⟨by rw [x_uI, if_pos ⟨rfl, rfl⟩]; rfl, (fun k hk => absurd hk (Nat.not_lt_zero k))⟩, (fun k hk => absurd hk (Nat.not_lt_zero k))⟩
  · intro w1 ⟨f1, g1, x1, y1⟩ o1 o2 o7
    have hE1 := XE_fQ f1 hE
    refine r_X0_hides_88 ⟨XE_s hE1, x_placeMany hE1 (r_X0_hides_94 ⟨fun _ => ⟨XE_s hE1, by omega, ?_⟩, fun z => absurd (Int32.le_refl _) z⟩)⟩
    have f2 : xfQ w (xUpI w1 256 19 0) := xfQ_trans f1 (xfQ_uO _ (Or.inr rfl))
    have g2 : XG B s 345 (xUpI w1 256 19 0) := XG_u (by omega) g1
    exact x_hides2 hB1 hK0 (XA_fQ f2 hA g2) hg rfl c7 ⟨by rw [x_uI, if_neg (by omega)]; exact x1.1, fun k hk => by rw [x_uI_ne (by omega)]; exact x1.2 k hk⟩ hsd hm3 ht (by rw [x_uI, if_pos ⟨rfl, rfl⟩]; rfl) (fun k hk => by rw [x_uI_ne (by omega)]; exact y1 k hk) (fun w3 f3 g3 x3 a3 b3 => q w3 (xfQ_trans f2 f3) g3 x3 a3 b3)
  · intro p w1 hp ⟨f1, g1, x1, y1⟩ next o1 o2 o7
    have hA1 := XA_fQ f1 hA g1
    have ep : nI p + 1 = nI (p + 1) := n_add _ 1
    have mp := mo p (by omega)
    rw [decide_eq_true hp, Bool.true_and] at mp
    have e1 : hfL set (gS s) (p + 1) = if (mb set p && decide (gS s p = 0)) = true then hfL set (gS s) p ++ [p] else hfL set (gS s) p := rfl
    have l1 := lenm p (by omega)
    have l2 := lenm (p + 1) (by omega)
    refine r_X0_hides_88 ⟨XE_s hA1.1, x_placeMany hA1.1 (r_X0_hides_94 ⟨fun z => by rw [n_le (by omega) (by omega)] at z; omega, fun _ => ?_⟩)⟩
    rw [lg_cmp_eq, mb_t0 _ (by omega), mp, ep]
    refine ⟨fun c8 => ?_, fun c8 => ?_⟩
    · have c8 : (mb set p && decide (gS s p = 0)) = true := by simpa using c8
      rw [if_pos c8] at e1
      rw [e1, List.length_append, List.length_singleton] at l2
      have r18 := x1.1
      rw [e1] at next
      generalize hfL set (gS s) p = L at *
      (try simp +decide (disch := omega) only [n_lit2, n_add, n_mul, n_tn, n_inT, n_ltT, n_ltF, n_leT, n_leF, n_eqT, n_eqF, n_eqm, n_meq, n_div, n_rem, nb_0, nb_1, nr_b, true_and, and_true, eq_self, Decidable.not_not, not_false_eq_true, not_true_eq_false, false_implies, true_implies, implies_true, Option.toList_some, Option.toList_none, List.cons_append, List.nil_append, xS_uI, xS_uL, xR_uI, xR_uL, xL_uI, xI_uL, xN_uI, xN_uL, xB_uI, xB_uL, add_nz, ge_256, and_self, XE_s hA1.1, XO_16 hA1.2.1, XO_17 hA1.2.1, XO_s16 hA1.2.1, XO_s17 hA1.2.1, r18, x_uI_ne, x_uL_ne]); (try simp (disch := omega) only [lc_eq, lc_le, lc_lt, lc_ge, lc_gt, mb_t1, mb_t0, bI_0, bI_1, n_in, n_lt, n_le, n_eq, Bool.not_eq_false, Bool.not_eq_true, Decidable.not_not, true_and, XE_s hA1.1, XO_16 hA1.2.1, XO_17 hA1.2.1, XO_s16 hA1.2.1, XO_s17 hA1.2.1, r18, x_uI_ne, x_uL_ne])
      refine next _ ⟨?_, ?_, ⟨?_, fun k hk => ?_⟩, fun k hk => ?_⟩
      · exact xfQ_trans (xfQ_then (xfQ_then f1 (xfr_uI (lo := 791) (hi := 791) w1 _ _ (by omega)) (by omega)) (xfr_uI (lo := 792) (hi := 792) _ _ _ (by omega)) (by omega)) (xfQ_uO _ (Or.inl rfl))
      · exact XG_u (by omega) (XG_fr (xfr_uI (lo := 792) (hi := 792) _ _ _ (by omega)) (by omega) (XG_fr (xfr_uI (lo := 791) (hi := 791) _ _ _ (by omega)) (by omega) g1))
      · rw [x_uI, if_pos ⟨rfl, rfl⟩, List.length_append, List.length_singleton]
      · rw [List.length_append, List.length_singleton] at hk
        rw [x_uI_ne (by omega), x_uI_ne (by omega), x_uI]
        by_cases z : k = L.length
        · rw [if_pos ⟨rfl, z⟩, z, gd_r]
        · rw [if_neg (by omega), gd_l (by omega)]; exact x1.2 k (by omega)
      · rw [List.length_append, List.length_singleton] at hk
        rw [x_uI_ne (by omega), x_uI]
        by_cases z : k = L.length
        · rw [if_pos ⟨rfl, z⟩]
        · rw [if_neg (by omega), x_uI_ne (by omega)]; exact y1 k (by omega)
    · rw [Decidable.not_not] at c8
      rw [if_neg (by rw [c8]; simp)] at e1
      rw [e1] at next
      exact next w1 ⟨f1, g1, x1, y1⟩
end
