/-! X: rows of days -/
theorem rwS_has {B : Bd} {st f : Nat → Nat} {n p : Nat} : gS (rwS B st f n) p ≠ 0 ↔ ∃ k, k < n ∧ f k = p := by
  induction n with
  | zero => exact ⟨fun h => absurd rfl h, fun ⟨k, h, _⟩ => by omega⟩
  | succ n ih =>
    have e : gS (rwS B st f (n + 1)) p = upN (gS (rwS B st f n)) (f n) (2 + 2 * kdG st (f n) + gD (rwS B st f n) % 2) p := rfl
    rw [e]
    unfold upN
    by_cases c : p = f n
    · rw [if_pos c]
      exact ⟨fun _ => ⟨n, by omega, c.symm⟩, fun _ => by omega⟩
    · rw [if_neg c, ih]
      constructor
      · intro ⟨k, h1, h2⟩; exact ⟨k, by omega, h2⟩
      · intro ⟨k, h1, h2⟩
        refine ⟨k, ?_, h2⟩
        rcases Nat.lt_or_ge k n with h | h
        · exact h
        · exact absurd (by rw [← h2]; congr 1; omega) c
def xfY (day : Nat) (w w' : xw) : Prop := xfr 717 790 w w' ∧ (∀ k, k < day → xI w' 717 k = xI w 717 k) ∧ ∀ i, 719 ≤ i → i < 719 + 8 * (day + 1) → xI w' i = xI w i ∧ xL w' i = xL w i
theorem xfY_refl (day : Nat) (w : xw) : xfY day w w := ⟨xfr_refl _ _ _, fun _ _ => rfl, fun _ _ _ => ⟨rfl, rfl⟩⟩
theorem xfY_trans {day : Nat} {w w1 w2 : xw} (h : xfY day w w1) (g : xfY day w1 w2) : xfY day w w2 :=
  ⟨xfr_trans h.1 g.1 (by omega) (by omega), fun k hk => (g.2.1 k hk).trans (h.2.1 k hk), fun i h1 h2 => ⟨(g.2.2 i h1 h2).1.trans (h.2.2 i h1 h2).1, (g.2.2 i h1 h2).2.trans (h.2.2 i h1 h2).2⟩⟩
theorem xfY_dn {d d' : Nat} {w w' : xw} (h : xfY d w w') (hd : d' ≤ d) : xfY d' w w' := ⟨h.1, fun k hk => h.2.1 k (by omega), fun i h1 h2 => h.2.2 i h1 (by omega)⟩
theorem xfY_of {lo hi day : Nat} {w w' : xw} (h : xfr lo hi w w') (h1 : 719 + 8 * (day + 1) ≤ lo ∧ hi ≤ 790) : xfY day w w' :=
  ⟨xfr_wk h (by omega), fun k _ => by rw [(h.2.2.2 717 (by omega)).1], fun i _ _ => h.2.2.2 i (by omega)⟩
theorem xfY_7 {day j : Nat} (w : xw) (v : Int32) (hj : day ≤ j) : xfY day w (xUpI w 717 j v) :=
  ⟨xfr_uI w _ _ (by omega), fun k hk => by rw [x_uI, if_neg (by omega)], fun i h1 _ => (xfr_uI (lo := 717) (hi := 717) w j v (by omega)).2.2.2 i (by omega)⟩
theorem XG_i {B : Bd} {s : GS} {a : Nat} {w w' : xw} (e : ∀ i, a ≤ i → i ≤ a + 7 → xI w' i = xI w i ∧ xL w' i = xL w i) (g : XG B s a w) : XG B s a w' := by
  obtain ⟨g1, g2, g3, g4, g5, g6, g7, g8, g9, g10⟩ := g
  refine ⟨?_, ?_, ?_, ?_, ?_, ?_, ?_, ?_, ?_, ?_⟩
  · rw [(e a (by omega) (by omega)).1]; exact g1
  · rw [(e a (by omega) (by omega)).1]; exact g2
  · rw [(e (a + 5) (by omega) (by omega)).2]; exact g3
  · rw [(e (a + 1) (by omega) (by omega)).2]; exact g4
  · rw [(e (a + 2) (by omega) (by omega)).2]; exact g5
  · rw [(e (a + 3) (by omega) (by omega)).1]; exact g6
  · rw [(e (a + 4) (by omega) (by omega)).1]; exact g7
  · rw [(e a (by omega) (by omega)).2]; exact g8
  · rw [(e a (by omega) (by omega)).2]; exact g9
  · rw [(e a (by omega) (by omega)).2]; exact g10
theorem XG_Y {B : Bd} {s : GS} {day k : Nat} {w w' : xw} (h : xfY day w w') (hk : k ≤ day) (g : XG B s (719 + 8 * k) w) : XG B s (719 + 8 * k) w' := XG_i (fun i h1 h2 => h.2.2 i (by omega) (by omega)) g
theorem XA_Y {B : Bd} {b : Nat} {s : GS} {day : Nat} {w w' : xw} (h : xfY day w w') (g : XA B b s w) : XA B b s w' := XA_fQ (xfQ_of h.1 (by omega)) g (XG_fr h.1 (by omega) g.2.2)
section
variable {Q : Option Value → xw → Prop} {w : xw} {B : Bd} {s t : GS} {a b : Nat} {H : List GS}
theorem x_isSameLand (hN : bN B ≤ 36) (hA : XA B b s w) (hg : gOk B s) (hP : XP a w) (hT : XG B t a w) (l2 : ∀ p, gL t p ≤ 2) (l0 : ∀ p, bN B ≤ p → gL t p = 0)
    (q : Q (some (.int (bI (rwE B t (gL s))))) w) : V_X0_isSameLand [.ref 256, .ref a] w Q := by
  obtain ⟨hE, hO, hG⟩ := hA
  have hP5 := XO_n hO
  have e0 : Int32.toNatClampNeg 0 = 0 := by decide
  have e1 : Int32.toNatClampNeg 1 = 1 := by decide
  have c0 := hT.2.2.2.2.1 0 (by omega)
  have c1 := hT.2.2.2.2.1 1 (by omega)
  have d0 := hG.2.2.2.2.1 0 (by omega)
  have d1 := hG.2.2.2.2.1 1 (by omega)
  have no : ∀ x, x < 2 → ldL (gL t) x ≠ ldL (gL s) x → rwE B t (gL s) = false := fun x hx h => by
    cases z : rwE B t (gL s) with
    | false => rfl
    | true =>
      exfalso; apply h
      apply mb_ext
      intro p hp
      rw [mb_ldL _ _ hp, mb_ldL _ _ hp]
      by_cases c : p < bN B
      · unfold rwE at z
        rw [List.all_eq_true] at z
        have := z p (List.mem_range.mpr c)
        rw [decide_eq_true_eq] at this
        rw [this]
      · rw [l0 p (by omega), hg.2.2.2.1 p (by omega)]
  refine e_X0_isSameLand (r_X0_isSameLand_0 ?_)
  rw [e0, e1]
  (try simp +decide (disch := omega) only [n_lit2, n_add, n_mul, n_tn, n_inT, n_ltT, n_ltF, n_leT, n_leF, n_eqT, n_eqF, n_eqm, n_meq, n_div, n_rem, nb_0, nb_1, nr_b, true_and, and_true, eq_self, Decidable.not_not, not_false_eq_true, not_true_eq_false, false_implies, true_implies, implies_true, Option.toList_some, Option.toList_none, List.cons_append, List.nil_append, xS_uI, xS_uL, xR_uI, xR_uL, xL_uI, xI_uL, xN_uI, xN_uL, xB_uI, xB_uL, add_nz, ge_256, and_self, XP_s hP, XO_7 hO, XE_s hE, XP_s hP, XP_r2 hP, XP_r3 hP, XP_r7 hP, XP_r8 hP, XP_r9 hP, XP_r11 hP, XP_r12 hP, XP_r13 hP, XP_s1 hP, XP_s2 hP, XP_s3 hP, XP_s4 hP, XP_s5 hP, XP_s6 hP, XP_s7 hP, XP_s hP5, XP_r2 hP5, XP_r3 hP5, XP_r7 hP5, XP_r8 hP5, XP_r9 hP5, XP_r11 hP5, XP_r12 hP5, XP_r13 hP5, XP_s1 hP5, XP_s2 hP5, XP_s3 hP5, XP_s4 hP5, XP_s5 hP5, XP_s6 hP5, XP_s7 hP5, c0, c1, d0, d1]); (try simp (disch := omega) only [lc_eq, lc_le, lc_lt, lc_ge, lc_gt, mb_t1, mb_t0, bI_0, bI_1, n_in, n_lt, n_le, n_eq, Bool.not_eq_false, Bool.not_eq_true, Decidable.not_not, true_and, XP_s hP, XO_7 hO, XE_s hE, XP_s hP, XP_r2 hP, XP_r3 hP, XP_r7 hP, XP_r8 hP, XP_r9 hP, XP_r11 hP, XP_r12 hP, XP_r13 hP, XP_s1 hP, XP_s2 hP, XP_s3 hP, XP_s4 hP, XP_s5 hP, XP_s6 hP, XP_s7 hP, XP_s hP5, XP_r2 hP5, XP_r3 hP5, XP_r7 hP5, XP_r8 hP5, XP_r9 hP5, XP_r11 hP5, XP_r12 hP5, XP_r13 hP5, XP_s1 hP5, XP_s2 hP5, XP_s3 hP5, XP_s4 hP5, XP_s5 hP5, XP_s6 hP5, XP_s7 hP5, c0, c1, d0, d1])
  refine ⟨fun z => ?_, fun z => ⟨fun z2 => ?_, fun z2 => ?_⟩⟩
  · rw [no 0 (by omega) z] at q; exact q
  · rw [no 1 (by omega) z2] at q; exact q
  · have : rwE B t (gL s) = true := by
      unfold rwE
      rw [List.all_eq_true]
      intro p hp
      rw [List.mem_range] at hp
      rw [decide_eq_true_eq]
      have m0 := congrArg (fun l => mb l p) z
      have m1 := congrArg (fun l => mb l p) z2
      simp only [mb_ldL _ _ (show p < 64 by omega), decide_eq_true (show p < 36 by omega), Bool.true_and] at m0 m1
      have a1 := l2 p
      have a2 := hg.2.2.1 p
      rw [decide_eq_decide] at m0 m1
      omega
    rw [this] at q; exact q
set_option maxHeartbeats 4000000 in
theorem xrw_loop (hB : bOk B) (hg : gOk B s) {n : Nat} (hn : n ≤ 8) {x1 x2 : Int32} (hx : x1 + x2 = nI n) (r : Nat) : ∀ (day : Nat), day + r + 1 = n → ∀ (f : Nat → Nat), (∀ k, k < day → f k < bN B ∧ gS s (f k) ≠ 0) → ∀ (c : Nat) (w0 : xw), XA B b s w0 → (∀ k, k ≤ day → XG B (rwS B (gS s) f k) (719 + 8 * k) w0) →
    (∀ w', xfY day w0 w' → (day = 0 → ∀ {o5 o6 : Option Value}, T_X0_rows Q 75 [some (.ref 256), some (.int x1), some (.int x2), some (.int (nI (c + smP (fun p => if okR (gS s) day f p = true then rwC B (gS s) (gL s) r (day + 1) (upN f day p) else 0) (bN B)))), some (.int (-nI 1)), o5, o6] [] w') ∧ (0 < day → ∀ {o5 o6 : Option Value}, T_X0_rows Q 75 [some (.ref 256), some (.int x1), some (.int x2), some (.int (nI (c + smP (fun p => if okR (gS s) day f p = true then rwC B (gS s) (gL s) r (day + 1) (upN f day p) else 0) (bN B)))), some (.int (nI (day - 1))), o5, o6] [] (xUpI w' 717 (day - 1) (xI w' 717 (day - 1) + 1)))) →
    ∀ (p : Nat) (w : xw), p ≤ bN B → xfY day w0 w → xI w 717 day = nI p →
    ∀ {o5 o6 : Option Value}, T_X0_rows Q 75 [some (.ref 256), some (.int x1), some (.int x2), some (.int (nI (c + smP (fun p => if okR (gS s) day f p = true then rwC B (gS s) (gL s) r (day + 1) (upN f day p) else 0) p))), some (.int (nI day)), o5, o6] [] w := by
  have hN := hB.2.2.2.2.1
  have hK := hB.2.2.2.2.2.1
  have z0 : (0 : Int32) = nI 0 := rfl
  induction r using Nat.strongRecOn with
  | _ r ih =>
    intro day hd f hf c w0 hA0 hS0 cont p w hp fw h7 o5 o6
    obtain ⟨ok, od⟩ := rwS_ok hB hg.1 (n := day) (by omega) hf
    refine upTo (bN B) (fun p (w1 : xw) => xfY day w0 w1 ∧ xI w1 717 day = nI p) (fun p w1 => ∀ {o5 o6 : Option Value}, T_X0_rows Q 75 [some (.ref 256), some (.int x1), some (.int x2), some (.int (nI (c + smP (fun p => if okR (gS s) day f p = true then rwC B (gS s) (gL s) r (day + 1) (upN f day p) else 0) p))), some (.int (nI day)), o5, o6] [] w1) ?_ ?_ p w hp ⟨fw, h7⟩
    · intro w1 ⟨f1, e1⟩ o5 o6
      obtain ⟨hE1, hO1, hG1⟩ := XA_Y f1 hA0
      obtain ⟨k1, k2⟩ := cont w1 f1
      refine r_X0_rows_75 ?_
      rw [XO_14 hO1, XO_s14 hO1, n_tn (by omega), e1]
      refine ⟨fun z => by rw [z0, n_lt (by omega) (by omega)] at z; omega, fun _ => ⟨XE_s hE1, by omega, rfl, (n_in (by omega)).mpr (by omega), XE_s hE1, x_placeMany hE1 (r_X0_rows_95 ⟨fun z => absurd rfl z, fun _ => ?_⟩)⟩⟩
      rw [XO_14 hO1, XO_s14 hO1]
      by_cases hd0 : day = 0
      · subst hd0
        refine ⟨fun z => k1 rfl, fun z => absurd (by decide) z⟩
      · have ed : nI day + -1 = nI (day - 1) := n_subneg (b := 1) (by omega)
        rw [ed, n_tn (by omega)]
        refine ⟨fun z => by rw [z0, n_lt (by omega) (by omega)] at z; omega, fun _ => ⟨XE_s hE1, by omega, rfl, (n_in (by omega)).mpr (by omega), rfl, by omega, (n_in (by omega)).mpr (by omega), k2 (by omega)⟩⟩
    · intro p w1 hp ⟨f1, e1⟩ next o5 o6
      have hA1 := XA_Y f1 hA0
      obtain ⟨hE1, hO1, hG1⟩ := id hA1
      have hS1 := fun k (hk : k ≤ day) => XG_Y f1 hk (hS0 k hk)
      have ep : nI p + 1 = nI (p + 1) := n_add p 1
      have ed : nI day + 1 = nI (day + 1) := n_add day 1
      have eG : smP (fun p => if okR (gS s) day f p = true then rwC B (gS s) (gL s) r (day + 1) (upN f day p) else 0) (p + 1) = smP (fun p => if okR (gS s) day f p = true then rwC B (gS s) (gL s) r (day + 1) (upN f day p) else 0) p + (if okR (gS s) day f p = true then rwC B (gS s) (gL s) r (day + 1) (upN f day p) else 0) := rfl
      have hPd := hO1.2.2.2.2.2 day (by omega)
      have skip : okR (gS s) day f p = false → ∀ {o5 o6 : Option Value}, T_X0_rows Q 75 [some (.ref 256), some (.int x1), some (.int x2), some (.int (nI (c + smP (fun p => if okR (gS s) day f p = true then rwC B (gS s) (gL s) r (day + 1) (upN f day p) else 0) p))), some (.int (nI day)), o5, o6] [] (xUpI w1 717 day (nI (p + 1))) := by
        intro hz o5 o6
        have nx := next (xUpI w1 717 day (nI (p + 1))) ⟨xfY_trans f1 (xfY_7 w1 _ (Nat.le_refl _)), by rw [x_uI, if_pos ⟨rfl, rfl⟩]⟩ (o5 := o5) (o6 := o6)
        rw [eG, hz] at nx
        exact nx
      refine r_X0_rows_75 ?_
      rw [XO_14 hO1, XO_s14 hO1, n_tn (by omega), e1]
      refine ⟨fun z => by rw [z0, n_lt (by omega) (by omega)] at z; omega, fun _ => ⟨XE_s hE1, by omega, rfl, (n_in (by omega)).mpr (by omega), XE_s hE1, x_placeMany hE1 (r_X0_rows_95 ⟨fun _ => ?_, fun z => by rw [Decidable.not_not, n_eq (by omega) (by omega)] at z; omega⟩)⟩⟩
      rw [XO_7 hO1, XP_r2 (XO_n hO1)]
      refine ⟨XE_s hE1, by omega, XP_s (XO_n hO1), by omega, x_sideOf (f := fun p => isOfG (gS s) p 0) (g := fun p => isOfG (gS s) p 1) (XP_s1 (XO_n hO1)) (by omega) ?_ ?_ (r_X0_rows_132 ?_)⟩
      · rw [hG1.2.2.2.1 0 (by omega), mb_stL _ _ (by omega), decide_eq_true (show p < 36 by omega), Bool.true_and]
      · rw [hG1.2.2.2.1 1 (by omega), mb_stL _ _ (by omega), decide_eq_true (show p < 36 by omega), Bool.true_and]
      have er : bs_irem (nI day) 2 = nI (day % 2) := n_rem (b := 2) (by omega) (by omega)
      rw [er, XO_14 hO1, XO_s14 hO1, XO_15 hO1, XO_s15 hO1, n_tn (by omega), e1, hPd.1, ep]
      have sd : (if isOfG (gS s) p 0 = true then nI 0 else if isOfG (gS s) p 1 = true then nI 1 else -nI 1) = nI (day % 2) ↔ isOfG (gS s) p (day % 2) = true := by
        have h1 : ¬ (-nI 1 : Int32) = nI (day % 2) := fun z => by
          have := (n_eqg (a := day % 2) (b := 1) (by omega) (by omega)).mp z.symm; omega
        have d2 : day % 2 = 0 ∨ day % 2 = 1 := by omega
        unfold isOfG at *
        by_cases c0 : 0 < gS s p
        · rcases Nat.mod_two_eq_zero_or_one (gS s p) with e | e <;> rcases d2 with e2 | e2 <;> simp [c0, e, e2] <;> decide
        · simp [c0, h1]
      refine ⟨by decide, fun z => ⟨XE_s hE1, by omega, rfl, (n_in (by omega)).mpr (by omega), rfl, by omega, (n_in (by omega)).mpr (by omega), skip ?_⟩, fun z => ⟨XE_s hE1, by omega, ⟨by omega, by omega⟩, (n_in (by omega)).mpr (by omega), by omega, XP_s hPd.2, x_has hPd.2 (hS1 day (Nat.le_refl _)) (by omega) (r_X0_rows_151 ?_)⟩⟩
      · rw [sd] at z
        have z' : isOfG (gS s) p (day % 2) = false := by simpa using z
        unfold okR; unfold isOfG at z'; rw [z']; rfl
      rw [Decidable.not_not, sd] at z
      rw [XO_14 hO1, XO_s14 hO1, XO_15 hO1, XO_s15 hO1, n_tn (by omega), e1, hPd.1, ep, ed, n_tn (by omega)]
      have hPe := hO1.2.2.2.2.2 (day + 1) (by omega)
      rw [hPe.1]
      refine ⟨fun y => ?_, fun y => ⟨XE_s hE1, by omega, rfl, (n_in (by omega)).mpr (by omega), rfl, by omega, (n_in (by omega)).mpr (by omega), skip ?_⟩⟩
      rotate_left
      · have y := bI_n0 y
        rw [decide_eq_true_eq, rwS_has] at y
        obtain ⟨k, y1, y2⟩ := y
        have : (List.range day).all (fun k => decide (f k ≠ p)) = false := by
          rw [List.all_eq_false]
          exact ⟨k, List.mem_range.mpr y1, by simp [y2]⟩
        unfold okR; rw [this, Bool.and_false]
      have y := bI_e0 y
      rw [decide_eq_false_iff_not] at y
      have hfr : gS (rwS B (gS s) f day) p = 0 := Decidable.not_not.mp y
      have hok : okR (gS s) day f p = true := by
        have : (List.range day).all (fun k => decide (f k ≠ p)) = true := by
          rw [List.all_eq_true]
          intro k hk
          rw [decide_eq_true_eq]
          exact fun e => y (rwS_has.mpr ⟨k, List.mem_range.mp hk, e⟩)
        unfold okR; unfold isOfG at z; rw [this, z]; rfl
      rw [if_pos hok] at eG
      have sne := isOf_ne z
      refine ⟨XE_s hE1, by omega, ⟨by omega, by omega⟩, (n_in (by omega)).mpr (by omega), by omega, XE_s hE1, by omega, ⟨by omega, by omega⟩, (n_in (by omega)).mpr (by omega), by omega, XP_s hPe.2, x_copy hPe.2 hPd.2 (by omega) (hS1 day (Nat.le_refl _)) ok.2.2.2.2.2.1 (fun w2 f2 g2 => r_X0_rows_187 ?_)⟩
      have y2 : xfY day w1 w2 := xfY_of f2 (by omega)
      obtain ⟨hE2, hO2, hG2⟩ := XA_Y y2 hA1
      have hPe2 := hO2.2.2.2.2.2 (day + 1) (by omega)
      have rk := hG2.2.2.2.2.2.1 p (by omega) sne
      rw [XO_7 hO2, XO_15 hO2, XO_s15 hO2, ed, n_tn (by omega), hPe2.1, XP_r7 (XO_n hO2), XP_s3 (XO_n hO2), n_tn (by omega), rk]
      have kb := sOk_kd hg.1 sne
      refine ⟨XE_s hE2, by omega, ⟨by omega, by omega⟩, (n_in (by omega)).mpr (by omega), by omega, XE_s hE2, by omega, XP_s (XO_n hO2), by omega, rfl, (n_in (by omega)).mpr (by omega), XP_s hPe2.2, x_goes (k := kdG (gS s) p) (Or.inl hB) hE2 hPe2.2 g2 ok (some p) (fun p' h => by cases h; exact ⟨hp, kb, rfl, hfr⟩) (fun w3 f3 g3 => r_X0_rows_211 ?_)⟩
      have y3 : xfY day w1 w3 := xfY_trans y2 (xfY_of f3 (by omega))
      have hA3 := XA_Y y3 hA1
      obtain ⟨hE3, hO3, hG3⟩ := id hA3
      have hPe3 := hO3.2.2.2.2.2 (day + 1) (by omega)
      have eS : ∀ k, k ≤ day → rwS B (gS s) (upN f day p) k = rwS B (gS s) f k := fun k hk => rwS_cong (fun j hj => by unfold upN; rw [if_neg (by omega)])
      have eS1 : rwS B (gS s) (upN f day p) (day + 1) = goG B (rwS B (gS s) f day) (kdG (gS s) p) (some p) := by
        have e : rwS B (gS s) (upN f day p) (day + 1) = goG B (rwS B (gS s) (upN f day p) day) (kdG (gS s) (upN f day p day)) (some (upN f day p day)) := rfl
        have e2 : upN f day p day = p := by unfold upN; rw [if_pos rfl]
        rw [e, eS day (Nat.le_refl _), e2]
      have hf' : ∀ k, k < day + 1 → upN f day p k < bN B ∧ gS s (upN f day p k) ≠ 0 := fun k hk => by
        unfold upN
        by_cases e : k = day
        · rw [if_pos e]; exact ⟨hp, sne⟩
        · rw [if_neg e]; exact hf k (by omega)
      have e73 : xI w3 717 day = nI p := by rw [(f3.2.2.2 717 (by omega)).1, (f2.2.2.2 717 (by omega)).1]; exact e1
      rw [hx, ed, n_eq (by omega) (by omega)]
      rw [← eS1] at g3
      cases r with
      | zero =>
        have en : n = day + 1 := by omega
        obtain ⟨ok', od'⟩ := rwS_ok hB hg.1 (n := day + 1) (by omega) hf'
        refine ⟨fun z => absurd en.symm z, fun _ => ⟨fun z => absurd z (by decide), fun _ => ?_⟩⟩
        rw [XO_15 hO3, XO_s15 hO3, n_tn (by omega), hPe3.1]
        refine ⟨XE_s hE3, by omega, ⟨by omega, by omega⟩, (n_in (by omega)).mpr (by omega), by omega, XE_s hE3, x_isSameLand hN hA3 hg hPe3.2 g3 ok'.2.2.1 ok'.2.2.2.1 (r_X0_rows_247 ?_)⟩
        rw [XO_14 hO3, XO_s14 hO3, n_tn (by omega), e73, ep]
        have nx := fun {o5 o6 : Option Value} => next (xUpI w3 717 day (nI (p + 1))) ⟨xfY_trans f1 (xfY_trans y3 (xfY_7 w3 _ (Nat.le_refl _))), by rw [x_uI, if_pos ⟨rfl, rfl⟩]⟩ (o5 := o5) (o6 := o6)
        rw [eG] at nx
        have eC : rwC B (gS s) (gL s) 0 (day + 1) (upN f day p) = if rwE B (rwS B (gS s) (upN f day p) (day + 1)) (gL s) = true then 1 else 0 := rfl
        rw [eC] at nx
        cases zz : rwE B (rwS B (gS s) (upN f day p) (day + 1)) (gL s) with
        | false =>
          rw [zz] at nx
          refine ⟨fun _ => ⟨fun z => absurd z (by decide), fun _ => ⟨XE_s hE3, by omega, rfl, (n_in (by omega)).mpr (by omega), rfl, by omega, (n_in (by omega)).mpr (by omega), ?_⟩⟩, fun z => absurd rfl z⟩
          rw [show ∀ m : Nat, nI m + 0 = nI m from fun m => n_add m 0]
          exact nx
        | true =>
          rw [zz] at nx
          refine ⟨fun z => absurd z (by decide), fun _ => ⟨fun z => absurd z (by decide), fun _ => ⟨XE_s hE3, by omega, rfl, (n_in (by omega)).mpr (by omega), rfl, by omega, (n_in (by omega)).mpr (by omega), ?_⟩⟩⟩
          rw [show ∀ m : Nat, nI m + 1 = nI (m + 1) from fun m => n_add m 1]
          exact nx
      | succ r =>
        refine ⟨fun _ => ⟨fun _ => ⟨fun _ => ?_, fun z => absurd rfl z⟩, fun z => absurd rfl z⟩, fun z => by rw [Decidable.not_not] at z; omega⟩
        rw [XO_14 hO3, XO_s14 hO3, n_tn (by omega), show ∀ m : Nat, nI m + 0 = nI m from fun m => n_add m 0]
        refine ⟨XE_s hE3, by omega, rfl, by omega, (n_in (by omega)).mpr (by omega), ?_⟩
        have start := ih r (by omega) (day + 1) (by omega) (upN f day p) hf' (c + smP (fun p => if okR (gS s) day f p = true then rwC B (gS s) (gL s) (r + 1) (day + 1) (upN f day p) else 0) p) w3 hA3 (fun k hk => ?_) (fun w' f' => ⟨fun z => by omega, fun _ => ?_⟩) 0 (xUpI w3 717 (day + 1) 0) (by omega) (xfY_7 w3 _ (Nat.le_refl _)) (by rw [x_uI, if_pos ⟨rfl, rfl⟩]; rfl) (o5 := none) (o6 := some (.int 0))
        · exact start
        · by_cases e : k = day + 1
          · subst e; exact g3
          · rw [eS k (by omega)]; exact XG_Y y3 (by omega) (hS1 k (by omega))
        · intro o5 o6
          have e74 : xI w' 717 day = nI p := by rw [f'.2.1 day (by omega)]; exact e73
          rw [show day + 1 - 1 = day from rfl, e74, ep]
          have nx := next (xUpI w' 717 day (nI (p + 1))) ⟨xfY_trans f1 (xfY_trans y3 (xfY_trans (xfY_dn f' (Nat.le_succ _)) (xfY_7 w' _ (Nat.le_refl _)))), by rw [x_uI, if_pos ⟨rfl, rfl⟩]⟩ (o5 := o5) (o6 := o6)
          rw [eG, ← Nat.add_assoc] at nx
          exact nx
set_option maxHeartbeats 2000000 in
theorem x_rows (hB : bOk B ∨ bN B = 0) (hA : XA B b s w) (hg : gOk B s)
    (q0 : ¬ rowOk B s → Q (some (.int (-nI 1))) w) (q1 : rowOk B s → ∀ w', xfQ w w' → XG B s 345 w' → Q (some (.int (nI (rowsR B s)))) w') : V_X0_rows [.ref 256] w Q := by
  have hN : bN B ≤ 36 := bN36 hB
  obtain ⟨hE, hO, hG⟩ := id hA
  have hP := XO_n hO
  have e0 : Int32.toNatClampNeg 0 = 0 := by decide
  have e1 : Int32.toNatClampNeg 1 = 1 := by decide
  have r0 := hG.2.2.2.1 0 (by omega)
  have r1 := hG.2.2.2.1 1 (by omega)
  have k0 := cnt_side (x := 0) hN hg.2.1
  have k1 := cnt_side (x := 1) hN hg.2.1
  have c0 := stonesG_le B (gS s) (some 0) none
  have c1 := stonesG_le B (gS s) (some 1) none
  have z8 : (8 : Int32) = nI 8 := rfl
  have z0 : (0 : Int32) = nI 0 := rfl
  refine e_X0_rows (r_X0_rows_0 ?_)
  rw [XO_7 hO, XP_r2 hP, XP_s1 hP, e0, show (345 + 1 : Nat) = 345 + 1 from rfl, r0]
  refine ⟨XE_s hE, by omega, XP_s hP, by omega, rfl, (n_in (a := 0) (by omega)).mpr (by omega), x_bitCount _ (r_X0_rows_12 ?_)⟩
  rw [XO_7 hO, XP_r2 hP, XP_s1 hP, e1, r1]
  refine ⟨XE_s hE, by omega, XP_s hP, by omega, rfl, (n_in (a := 1) (by omega)).mpr (by omega), x_bitCount _ (r_X0_rows_25 ?_)⟩
  rw [k0, k1]
  have en : nI (stonesG B (gS s) (some 0) none) + nI (stonesG B (gS s) (some 1) none) = nI (rowN B s) := n_add _ _
  have hrn : rowN B s = stonesG B (gS s) (some 0) none + stonesG B (gS s) (some 1) none := rfl
  rw [en, z8, z0, n_eq (by omega) (by omega), n_lt (by omega) (by omega), show nI (stonesG B (gS s) (some 1) none) + 1 = nI (stonesG B (gS s) (some 1) none + 1) from n_add _ 1, n_eq (by omega) (by omega), n_eq (by omega) (by omega)]
  have go : rowOk B s → ∀ {o3 o4 o5 o6 : Option Value}, V_X5_clears [.ref 719] w (fun v w1 => T_X0_rows Q 63 [some (.ref 256), some (.int (nI (stonesG B (gS s) (some 0) none))), some (.int (nI (stonesG B (gS s) (some 1) none))), o3, o4, o5, o6] (v.toList ++ []) w1) := by
    intro ok o3 o4 o5 o6
    have q := q1 ok
    have hB1 : bOk B := by
      rcases hB with h | h
      · exact h
      · exfalso
        have := ok.1
        rw [h] at c0 c1
        omega
    refine x_clears (B := B) (hO.2.2.2.2.2 0 (by omega)).2 (fun w1 f1 g1 => r_X0_rows_63 ?_)
    have a1 := XA_fQ (xfQ_of f1 (by omega)) hA (XG_fr f1 (by omega) hG)
    rw [XO_14 a1.2.1, XO_s14 a1.2.1]
    refine ⟨XE_s a1.1, by omega, rfl, by omega, (n_in (a := 0) (by omega)).mpr (by omega), ?_⟩
    have ok1 := ok.1
    have ok2 := ok.2.1
    have start := xrw_loop (Q := Q) (b := b) hB1 hg (n := rowN B s) ok2 en (rowN B s - 1) 0 (by omega) (fun _ => 0) (fun k hk => by omega) 0 w1 a1 (fun k hk => by rw [show k = 0 from by omega]; exact g1) (fun w' f' => ⟨fun _ => ?_, fun z => by omega⟩) 0 (xUpI w1 717 0 0) (by omega) (xfY_7 w1 _ (Nat.le_refl _)) (by rw [x_uI, if_pos ⟨rfl, rfl⟩]; rfl) (o5 := none) (o6 := none)
    · exact start
    · intro o5 o6
      refine r_X0_rows_75 ⟨fun _ => ⟨trivial, ?_⟩, fun z => absurd (by decide) z⟩
      have q := q w' (xfQ_trans (xfQ_of f1 (by omega)) (xfQ_of f'.1 (by omega))) (XG_fr f'.1 (by omega) a1.2.2)
      have er : rowsR B s = smP (fun p => if okR (gS s) 0 (fun _ => 0) p = true then rwC B (gS s) (gL s) (rowN B s - 1) (0 + 1) (upN (fun _ => 0) 0 p) else 0) (bN B) := by
        unfold rowsR
        generalize rowN B s = n at *
        obtain ⟨m, rfl⟩ : ∃ m, n = m + 1 := ⟨n - 1, by omega⟩
        rfl
      rw [Nat.zero_add, ← er]
      exact q
  have ex : 719 = 719 + 8 * 0 := rfl
  rw [XO_15 hO, XO_s15 hO, show (Int32.toNatClampNeg (nI 0)) = 0 from by decide, (hO.2.2.2.2.2 0 (by omega)).1]
  have cl : rowOk B s → _ := fun ok => (⟨XE_s hE, by omega, ⟨by omega, by omega⟩, (n_in (a := 0) (by omega)).mpr (by omega), by omega, XP_s (hO.2.2.2.2.2 0 (by omega)).2, go ok⟩ : (xS w 256).1 = 1 ∧ ¬ (718 : Nat) = 0 ∧ ((55 ≤ ((56, 9) : Nat × Nat).1 ∧ ((56, 9) : Nat × Nat).1 ≤ 59) ∧ vp_in (nI 0) ((56, 9) : Nat × Nat).2 ∧ ¬ (719 + 8 * 0) = 0 ∧ ((xS w (719 + 8 * 0)).1 = 6 ∧ V_X5_clears [.ref (719 + 8 * 0)] w (fun v w1 => T_X0_rows Q 63 [some (.ref 256), some (.int (nI (stonesG B (gS s) (some 0) none))), some (.int (nI (stonesG B (gS s) (some 1) none))), none, none, none, none] (v.toList ++ []) w1))))
  refine ⟨fun c => ⟨trivial, q0 (fun z => by have := z.1; omega)⟩, fun c => ⟨fun c2 => ⟨trivial, q0 (fun z => by have := z.2.1; omega)⟩, fun c2 => ⟨fun c3 => cl ⟨by omega, by omega, by omega⟩, fun c3 => ⟨fun c4 => cl ⟨by omega, by omega, by omega⟩, fun c4 => ⟨trivial, q0 (fun z => by have := z.2.2; omega)⟩⟩⟩⟩⟩
end
