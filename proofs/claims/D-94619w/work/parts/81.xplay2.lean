/-! X: plays, thumbs -/
section
variable {Q : Option Value → xw → Prop} {w : xw} {B : Bd} {s t : GS} {a b : Nat} {H : List GS}
theorem x_plays0 (hB : bOk B) {side d : Nat} (hs : side < 2) : plP B b side 0 (d + 1) := by
  intro at_ t w Q hn hE hO hG hg hd q
  have hN := hB.2.2.2.2.1
  have hV := hB.2.2.2.2.2.2.2
  obtain ⟨r0, p0⟩ := hO.2.2.2.2.1 at_ (by omega)
  have n0 : (685 + 8 * at_ = 0) = False := eq_false (by omega)
  refine e_X0_plays (r_X0_plays_0 ?_)
  (try simp +decide (disch := omega) only [n_lit2, n_add, n_mul, n_tn, n_inT, n_ltT, n_ltF, n_leT, n_leF, n_eqT, n_eqF, n_eqm, n_meq, n_div, n_rem, nb_0, nb_1, nr_b, true_and, and_true, eq_self, Decidable.not_not, not_false_eq_true, not_true_eq_false, false_implies, true_implies, implies_true, Option.toList_some, Option.toList_none, List.cons_append, List.nil_append, xS_uI, xS_uL, xR_uI, xR_uL, xL_uI, xI_uL, xN_uI, xN_uL, xB_uI, xB_uL, add_nz, ge_256, and_self, XE_s hE, XO_12 hO, XO_s12 hO, r0, n0, XP_s p0]); (try simp (disch := omega) only [lc_eq, lc_le, lc_lt, lc_ge, lc_gt, mb_t1, mb_t0, bI_0, bI_1, n_in, n_lt, n_le, n_eq, Bool.not_eq_false, Bool.not_eq_true, Decidable.not_not, true_and, XE_s hE, XO_12 hO, XO_s12 hO, r0, n0, XP_s p0])
  refine x_value hN hV hE p0 hG hg hs (r_X0_plays_19 ⟨trivial, ?_⟩)
  exact q w (xfD_refl _ _) (fun h => by omega)
def fnd (N : Nat) (n at_ : Nat) (bb : Option (Nat × Int32)) (best found : Int32) (w : xw) : Prop := match bb with
  | none => best = nI 0 ∧ found = nI 0
  | some (m, x) => best = x ∧ found = nI 1 ∧ xI w 684 at_ = plI (mvP N m)
set_option maxHeartbeats 2000000 in
theorem x_playsS (hB : bOk B) (hK0 : 0 < bK B) {side n d : Nat} (hs : side < 2) (hp : plP B b side n d) : plP B b side (n + 1) (d + 2) := by
  intro at_ t w Q hn hE hO hG hg hd q
  have hN := hB.2.2.2.2.1
  obtain ⟨r0, p0⟩ := hO.2.2.2.2.1 at_ (by omega)
  have hdd : gD t ≤ 200 := hg.2.2.2.2.1
  have n0 : (685 + 8 * at_ = 0) = False := eq_false (by omega)
  have main : ∀ own : Bool, own = decide (gD t % 2 = side) → ∀ {o9 o10 : Option Value}, T_X0_plays (d + 1) Q 45 [some (.ref 256), some (.int (nI at_)), some (.int (nI (n + 1))), some (.int (nI side)), some (.ref (685 + 8 * at_)), some (.int (bI own)), some (.int (nI 0)), some (.int (nI 0)), some (.int (nI 0)), o9, o10] [] w := by
    intro own hown
    have bE : ∀ j, bst own (okM B t) (fun m => plV B side n (goG B t 0 (mvP (bN B) m))) j = bst (decide (gD t % 2 = side)) (okM B t) (fun m => ((plB B side n (goG B t 0 (mvP (bN B) m))).getD (0, 0)).2) j := fun j => by rw [hown]; rfl
    generalize hv : (fun m => plV B side n (goG B t 0 (mvP (bN B) m))) = v at *
    have start := upTo (bN B + 1) (fun j (x : Int32 × Int32 × xw) => xfD at_ w x.2.2 ∧ fnd (bN B) n at_ (bst own (okM B t) v j) x.1 x.2.1 x.2.2)
      (fun j x => ∀ {o9 o10 : Option Value}, T_X0_plays (d + 1) Q 45 [some (.ref 256), some (.int (nI at_)), some (.int (nI (n + 1))), some (.int (nI side)), some (.ref (685 + 8 * at_)), some (.int (bI own)), some (.int x.1), some (.int x.2.1), some (.int (nI j)), o9, o10] [] x.2.2) ?_ ?_
    · exact fun {o9 o10} => start 0 (nI 0, nI 0, w) (by omega) ⟨xfD_refl _ _, rfl, rfl⟩ (o9 := o9) (o10 := o10)
    · rintro ⟨best, found, w1⟩ ⟨f1, h1⟩ o9 o10
      dsimp only at f1 h1 ⊢
      have hE1 := XE_fQ (xfQ_D f1) hE
      refine r_X0_plays_45 ⟨XE_s hE1, x_placeMany hE1 (r_X0_plays_51 ⟨fun _ => ⟨trivial, ?_⟩, fun z => absurd ((n_lt (by omega) (by omega)).mpr (by omega)) z⟩)⟩
      obtain ⟨m, x, e⟩ := bst_some (own := own) (ok := okM B t) (v := v) (j := bN B) (by unfold okM; simp)
      rw [e] at h1
      obtain ⟨h2, h3, h4⟩ := h1
      have e2 : plB B side (n + 1) t = some (m, x) := by
        rw [← e, bE]; rfl
      have eV : plV B side (n + 1) t = x := by unfold plV; rw [e2]; rfl
      have eM : plM B side (n + 1) t = m := by unfold plM; rw [e2]; rfl
      have q := q w1 f1
      rw [eV, eM] at q
      rw [h2]; exact q (fun _ => h4)
    · rintro j ⟨best, found, w1⟩ hj ⟨f1, h1⟩ next o9 o10
      dsimp only at f1 h1 ⊢
      have hE1 := XE_fQ (xfQ_D f1) hE
      have hO1 := XO_fQ (xfQ_D f1) hO
      have hG1 := XG_D f1 (by omega) hG
      have ej : nI j + 1 = nI (j + 1) := n_add _ 1
      have skip : okM B t j = false → ∀ {o9 o10 : Option Value}, T_X0_plays (d + 1) Q 45 [some (.ref 256), some (.int (nI at_)), some (.int (nI (n + 1))), some (.int (nI side)), some (.ref (685 + 8 * at_)), some (.int (bI own)), some (.int best), some (.int found), some (.int (nI (j + 1))), o9, o10] [] w1 := fun hz => by
        refine next (best, found, w1) ⟨f1, ?_⟩
        have : bst own (okM B t) v (j + 1) = bst own (okM B t) v j := by
          conv => lhs; unfold bst
          rw [if_neg (by rw [hz]; simp)]
        rw [this]; exact h1
      have take : okM B t j = true → ∀ {o9 o10 : Option Value}, G_plays (d + 1) 1 [.ref 256, .int (nI at_), .int (plI (mvP (bN B) j)), .int (nI (n + 1)), .int (nI side)] w1 (fun x w2 => T_X0_plays (d + 1) Q 99 [some (.ref 256), some (.int (nI at_)), some (.int (nI (n + 1))), some (.int (nI side)), some (.ref (685 + 8 * at_)), some (.int (bI own)), some (.int best), some (.int found), some (.int (nI j)), some (.int (plI (mvP (bN B) j))), none] (x.toList ++ []) w2) := by
        intro hz o9 o10
        refine x_playsOn hB hK0 hp (by omega) hE1 hO1 hG1 hg (by omega) (mvP (bN B) j) (fun p hpe => ?_) (fun w2 f2 e2 => r_X0_plays_99 ?_)
        · unfold mvP at hpe
          split at hpe
          · cases hpe
          · rename_i hne
            cases hpe
            unfold okM at hz
            simp [hne] at hz
            exact ⟨by omega, hz⟩
        · have hE2 := XE_fQ (xfQ_D f2) hE1
          have hO2 := XO_fQ (xfQ_D f2) hO1
          have eb : bst own (okM B t) v (j + 1) = bst1 own (bst own (okM B t) v j) j (v j) := by
            conv => lhs; unfold bst
            rw [if_pos hz]
          have ev : plV B side n (goG B t 0 (mvP (bN B) j)) = v j := by rw [← hv]
          rw [ev, ej, XO_13 hO2, n_tn (by omega)]
          have f3 : xfD at_ w w2 := xfD_trans f1 f2
          have upd : ∀ {o9 o10 : Option Value}, bst1 own (bst own (okM B t) v j) j (v j) = some (j, v j) → T_X0_plays (d + 1) Q 45 [some (.ref 256), some (.int (nI at_)), some (.int (nI (n + 1))), some (.int (nI side)), some (.ref (685 + 8 * at_)), some (.int (bI own)), some (.int (v j)), some (.int 1), some (.int (nI (j + 1))), o9, o10] [] (xUpI w2 684 at_ (plI (mvP (bN B) j))) := by
            intro o9 o10 hb
            refine next (v j, nI 1, _) ⟨xfD_trans f3 (xfD_u _ (Nat.le_refl _)), ?_⟩
            rw [eb, hb]
            exact ⟨rfl, rfl, (x_uI w2 684 at_ _ 684 at_).trans (if_pos ⟨rfl, rfl⟩)⟩
          have keep : ∀ {o9 o10 : Option Value}, bst1 own (bst own (okM B t) v j) j (v j) = bst own (okM B t) v j → T_X0_plays (d + 1) Q 45 [some (.ref 256), some (.int (nI at_)), some (.int (nI (n + 1))), some (.int (nI side)), some (.ref (685 + 8 * at_)), some (.int (bI own)), some (.int best), some (.int found), some (.int (nI (j + 1))), o9, o10] [] w2 := by
            intro o9 o10 hb
            refine next (best, found, w2) ⟨f3, ?_⟩
            rw [eb, hb]
            unfold fnd at h1 ⊢
            split at h1
            · exact h1
            · exact ⟨h1.1, h1.2.1, by dsimp only; rw [e2]; exact h1.2.2⟩
          have sh : (xS w2 256).1 = 1 ∧ ¬ (684 : Nat) = 0 ∧ ((xS w2 684).1 = 51 ∧ 256 ≤ 684 ∧ vp_in (nI at_) (xS w2 684).2) := ⟨XE_s hE2, by omega, by rw [XO_s13 hO2], by omega, by rw [XO_s13 hO2]; exact (n_in (by omega)).mpr (by omega)⟩
          cases hbb : bst own (okM B t) v j with
          | none =>
            rw [hbb] at h1
            obtain ⟨h2, h3⟩ := h1
            subst h3
            refine ⟨fun _ => ⟨sh.1, sh.2.1, sh.2.2.1, sh.2.2.2.1, sh.2.2.2.2, upd (by rw [hbb]; rfl)⟩, fun z => absurd rfl z⟩
          | some mx =>
            obtain ⟨m, x⟩ := mx
            rw [hbb] at h1
            obtain ⟨h2, h3, h4⟩ := h1
            subst h2 h3
            have b1 : bst1 own (some (m, best)) j (v j) = if (own = true ∧ v j ≤ best) ∨ (own = false ∧ best ≤ v j) then some (m, best) else some (j, v j) := rfl
            rw [hbb] at upd keep
            rw [b1] at upd keep
            refine ⟨fun z => absurd z (by decide), fun _ => ?_⟩
            cases own with
            | false =>
              refine ⟨fun _ => ⟨fun c => ⟨sh.1, sh.2.1, sh.2.2.1, sh.2.2.2.1, sh.2.2.2.2, upd ?_⟩, fun c => keep ?_⟩, fun z => absurd rfl z⟩
              · rw [if_neg]
                rintro (⟨z, _⟩ | ⟨_, z⟩)
                · cases z
                · exact absurd c (Int32.not_lt.mpr z)
              · rw [if_pos (Or.inr ⟨rfl, Int32.not_lt.mp c⟩)]
            | true =>
              refine ⟨fun z => absurd z (by decide), fun _ => ⟨fun c => ⟨sh.1, sh.2.1, sh.2.2.1, sh.2.2.2.1, sh.2.2.2.2, upd ?_⟩, fun c => keep ?_⟩⟩
              · rw [if_neg]
                rintro (⟨_, z⟩ | ⟨z, _⟩)
                · exact absurd c (Int32.not_lt.mpr z)
                · cases z
              · rw [if_pos (Or.inl ⟨rfl, Int32.not_lt.mp c⟩)]
      refine r_X0_plays_45 ⟨XE_s hE1, x_placeMany hE1 (r_X0_plays_51 ⟨fun z => by rw [n_lt (by omega) (by omega)] at z; omega, fun _ => ⟨XE_s hE1, x_placeMany hE1 (r_X0_plays_60 ?_)⟩⟩)⟩
      rw [n_eq (by omega) (by omega)]
      refine ⟨fun c => ⟨fun z => absurd z (by rw [show (-1 : Int32) = -nI 1 from rfl, n_eqm (by omega)]; exact id), fun _ => ⟨XP_s (XP_sr f1.2.1 p0), x_has (XP_sr f1.2.1 p0) hG1 (by omega) (r_X0_plays_84 ?_)⟩⟩, fun c => ⟨fun _ => ?_, fun z => absurd rfl z⟩⟩
      · have em : mvP (bN B) j = some j := by unfold mvP; rw [if_neg c]
        rw [em] at take
        by_cases z : gS t j = 0
        · rw [decide_eq_false (by simp [z])]
          have hok : okM B t j = true := by unfold okM; simp [z]
          exact ⟨fun _ => ⟨XE_s hE1, take hok (o9 := none) (o10 := none)⟩, fun z => absurd rfl z⟩
        · rw [decide_eq_true z, ej]
          have hok : okM B t j = false := by unfold okM; simp [z, c]
          exact ⟨fun z => absurd z (by decide), fun _ => skip hok⟩
      · rw [Decidable.not_not] at c
        have em : mvP (bN B) j = none := by unfold mvP; rw [if_pos c]
        rw [em] at take
        have hok : okM B t j = true := by unfold okM; simp [c]
        exact ⟨XE_s hE1, take hok (o9 := none) (o10 := none)⟩
  refine e_X0_plays (r_X0_plays_0 ?_)
  (try simp +decide (disch := omega) only [n_lit2, n_add, n_mul, n_tn, n_inT, n_ltT, n_ltF, n_leT, n_leF, n_eqT, n_eqF, n_eqm, n_meq, n_div, n_rem, nb_0, nb_1, nr_b, true_and, and_true, eq_self, Decidable.not_not, not_false_eq_true, not_true_eq_false, false_implies, true_implies, implies_true, Option.toList_some, Option.toList_none, List.cons_append, List.nil_append, xS_uI, xS_uL, xR_uI, xR_uL, xL_uI, xI_uL, xN_uI, xN_uL, xB_uI, xB_uL, add_nz, ge_256, and_self, XE_s hE, XO_12 hO, XO_s12 hO, r0, n0, XP_s p0]); (try simp (disch := omega) only [lc_eq, lc_le, lc_lt, lc_ge, lc_gt, mb_t1, mb_t0, bI_0, bI_1, n_in, n_lt, n_le, n_eq, Bool.not_eq_false, Bool.not_eq_true, Decidable.not_not, true_and, XE_s hE, XO_12 hO, XO_s12 hO, r0, n0, XP_s p0])
  refine x_side p0 hG (by omega) (r_X0_plays_25 ?_)
  rw [n_eq (by omega) (by omega)]
  refine ⟨fun c => ?_, fun c => ?_⟩
  · exact main false (by rw [decide_eq_false c])
  · exact main true (by rw [decide_eq_true (Decidable.not_not.mp c)])
theorem x_plays (hB : bOk B) (hK0 : 0 < bK B) {side : Nat} (hs : side < 2) (n : Nat) : ∀ d, 2 * n + 1 ≤ d → plP B b side n d := by
  induction n with
  | zero =>
    intro d hd
    obtain ⟨e, rfl⟩ : ∃ e, d = e + 1 := ⟨d - 1, by omega⟩
    exact x_plays0 hB hs
  | succ n ih =>
    intro d hd
    obtain ⟨e, rfl⟩ : ∃ e, d = e + 2 := ⟨d - 2, by omega⟩
    exact x_playsS hB hK0 hs (ih e (by omega))
end
