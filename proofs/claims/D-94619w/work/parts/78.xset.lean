/-! X: days that are kept, set, undone -/
theorem XE_u {B : Bd} {b : Nat} {w : xw} {k : Nat} {v : Int32} (g : XE B b w) : XE B b (xUpI w 256 k v) := ⟨g.1, XBv_cong g.2 (fun i hi => (xUpI_ne w 256 k v i hi.2.1).1) (fun _ _ => rfl)⟩
theorem XG_u {B : Bd} {s : GS} {a : Nat} {w : xw} {k : Nat} {v : Int32} (h : 256 < a) (g : XG B s a w) : XG B s a (xUpI w 256 k v) := by
  obtain ⟨g1, g2, g3, g4, g5, g6, g7, g8, g9, g10⟩ := g
  exact ⟨by rw [x_uI_ne (by omega)]; exact g1, by rw [x_uI_ne (by omega)]; exact g2, g3, g4, g5, by rw [x_uI_ne (by omega)]; exact g6, by rw [x_uI_ne (by omega)]; exact g7, g8, g9, g10⟩
/-- what a day may alter -/
def xfS (w w' : xw) : Prop := (xN w' = xN w ∧ xB w' = xB w) ∧ (xS w' = xS w ∧ ∀ i, i ≠ 354 → xR w' i = xR w i) ∧ (∀ i, i ≠ 256 → (i < 345 ∨ 792 < i) → xI w' i = xI w i ∧ xL w' i = xL w i) ∧ (∀ k, k ≠ 10 → k ≠ 18 → k ≠ 19 → xI w' 256 k = xI w 256 k) ∧ xL w' 256 = xL w 256
theorem xfS_refl (w : xw) : xfS w w := ⟨⟨rfl, rfl⟩, ⟨rfl, fun _ _ => rfl⟩, fun _ _ _ => ⟨rfl, rfl⟩, fun _ _ _ _ => rfl, rfl⟩
theorem xfS_trans {w w1 w2 : xw} (h : xfS w w1) (g : xfS w1 w2) : xfS w w2 :=
  ⟨⟨g.1.1.trans h.1.1, g.1.2.trans h.1.2⟩, ⟨g.2.1.1.trans h.2.1.1, fun i hi => (g.2.1.2 i hi).trans (h.2.1.2 i hi)⟩, fun i h1 h2 => ⟨(g.2.2.1 i h1 h2).1.trans (h.2.2.1 i h1 h2).1, (g.2.2.1 i h1 h2).2.trans (h.2.2.1 i h1 h2).2⟩, fun k h1 h2 h3 => (g.2.2.2.1 k h1 h2 h3).trans (h.2.2.2.1 k h1 h2 h3), g.2.2.2.2.trans h.2.2.2.2⟩
theorem xfS_of {lo hi : Nat} {w w' : xw} (h : xfr lo hi w w') (h1 : 345 ≤ lo ∧ hi ≤ 792) : xfS w w' :=
  ⟨h.1, ⟨h.2.1, fun i _ => by rw [h.2.2.1]⟩, fun i _ hi => h.2.2.2 i (by omega), fun k _ _ _ => by rw [(h.2.2.2 256 (by omega)).1], (h.2.2.2 256 (by omega)).2⟩
theorem xfS_u {w : xw} (v : Int32) : xfS w (xUpI w 256 10 v) :=
  ⟨⟨rfl, rfl⟩, ⟨rfl, fun _ _ => rfl⟩, fun i hi _ => ⟨(xUpI_ne w 256 10 v i hi).1, rfl⟩, fun j h1 h2 h3 => by rw [x_uI, if_neg (by omega)], rfl⟩
theorem xfS_Q {w w' : xw} (h : xfQ w w') : xfS w w' := ⟨h.1, ⟨h.2.1.1, fun i _ => by rw [h.2.1.2]⟩, fun i h1 h2 => h.2.2.1 i h1 (by omega), fun k _ h1 h2 => h.2.2.2.1 k h1 h2, h.2.2.2.2⟩
/-- the cells of states that are kept, in some order -/
def XKp (w : xw) : Prop := (∀ k, k < 40 → ∃ j, j < 40 ∧ xR w 354 k = 355 + 8 * j) ∧ (∀ j, j < 40 → XP (355 + 8 * j) w) ∧ ∀ k l, k < 40 → l < 40 → k ≠ l → xR w 354 k ≠ xR w 354 l
def XK (B : Bd) (H : List GS) (w : xw) : Prop := H.length ≤ 40 ∧ xI w 256 10 = nI H.length ∧ XKp w ∧ ∀ k s, H[k]? = some s → (gO s).length ≤ 16 ∧ XG B s (xR w 354 (H.length - 1 - k)) w
theorem XKp_at {w : xw} (h : XKp w) {k : Nat} (hk : k < 40) : XP (xR w 354 k) w ∧ 355 ≤ xR w 354 k ∧ xR w 354 k + 7 ≤ 674 := by
  obtain ⟨j, hj, e⟩ := h.1 k hk
  rw [e]
  exact ⟨h.2.1 j hj, by omega, by omega⟩
theorem XKp_apart {w : xw} (h : XKp w) {k l : Nat} (hk : k < 40) (hl : l < 40) (hn : k ≠ l) : xR w 354 k + 7 < xR w 354 l ∨ xR w 354 l + 7 < xR w 354 k := by
  obtain ⟨j, hj, e⟩ := h.1 k hk
  obtain ⟨i, hi, e2⟩ := h.1 l hl
  have := h.2.2 k l hk hl hn
  omega
theorem XK_fr {lo hi : Nat} {w w' : xw} {B : Bd} {H : List GS} (h : xfr lo hi w w') (h1 : hi ≤ 354 ∧ 257 ≤ lo ∨ 675 ≤ lo) (g : XK B H w) : XK B H w' := by
  obtain ⟨g1, g2, g3, g4⟩ := g
  have eR := h.2.2.1
  refine ⟨g1, by rw [(h.2.2.2 256 (by omega)).1]; exact g2, ⟨?_, fun j hj => XP_fr h (g3.2.1 j hj), ?_⟩, fun k s hk => ⟨(g4 k s hk).1, ?_⟩⟩
  · rw [eR]; exact g3.1
  · rw [eR]; exact g3.2.2
  · rw [eR]
    have hkl : k < H.length := by
      rcases Nat.lt_or_ge k H.length with z | z
      · exact z
      · rw [List.getElem?_eq_none z] at hk; cases hk
    have := (XKp_at g3 (k := H.length - 1 - k) (by omega)).2
    exact XG_fr h (by omega) (g4 k s hk).2
theorem XK_fQ {w w' : xw} {B : Bd} {H : List GS} (h : xfQ w w') (g : XK B H w) : XK B H w' := by
  obtain ⟨g1, g2, g3, g4⟩ := g
  have eR := h.2.1.2
  refine ⟨g1, by rw [h.2.2.2.1 10 (by omega) (by omega)]; exact g2, ⟨?_, fun j hj => XP_sr h.2.1 (g3.2.1 j hj), ?_⟩, fun k s hk => ⟨(g4 k s hk).1, ?_⟩⟩
  · rw [eR]; exact g3.1
  · rw [eR]; exact g3.2.2
  · rw [eR]
    have hkl : k < H.length := by
      rcases Nat.lt_or_ge k H.length with z | z
      · exact z
      · rw [List.getElem?_eq_none z] at hk; cases hk
    have hr := (XKp_at g3 (k := H.length - 1 - k) (by omega)).2
    obtain ⟨q1, q2, q3, q4, q5, q6, q7, q8, q9, q10⟩ := (g4 k s hk).2
    have e := fun i (hi : 353 < i ∧ i < 675) => h.2.2.1 i (by omega) (by omega)
    exact ⟨by rw [(e _ (by omega)).1]; exact q1, by rw [(e _ (by omega)).1]; exact q2, by rw [(e _ (by omega)).2]; exact q3, by rw [(e _ (by omega)).2]; exact q4, by rw [(e _ (by omega)).2]; exact q5, by rw [(e _ (by omega)).1]; exact q6, by rw [(e _ (by omega)).1]; exact q7, by rw [(e _ (by omega)).2]; exact q8, by rw [(e _ (by omega)).2]; exact q9, by rw [(e _ (by omega)).2]; exact q10⟩
section
variable {Q : Option Value → xw → Prop} {w : xw} {B : Bd} {s t : GS} {a b : Nat} {H : List GS}
/-- the copy, where there is room -/
theorem x_keeps1 (hA : XA B b s w) (h16 : (gO s).length ≤ 16) (hH : XK B H w) (hl : H.length < 40)
    (q : ∀ w', xfS w w' → XA B b s w' → XK B (s :: H) w' → Q none w') : ∀ {o1 o2 : Option Value}, T_X0_keeps Q 62 [some (.ref 256), o1, o2] [] w := by
  intro o1 o2
  obtain ⟨hE, hO, hG⟩ := hA
  obtain ⟨k1, k2, k3, k4⟩ := id hH
  have hc := XKp_at k3 hl
  have hn0 : xR w 354 H.length ≠ 0 := by omega
  refine r_X0_keeps_62 ?_
  rw [XO_9 hO, XO_7 hO, k2, n_tn (by omega), XO_s9 hO]
  refine ⟨XE_s hE, by omega, XE_s hE, by omega, (n_in (by omega)).mpr (by omega), hn0, XE_s hE, by omega, XP_s hc.1, x_copy hc.1 (XO_n hO) (by omega) hG h16 (fun w1 f1 g1 => r_X0_keeps_78 ?_)⟩
  have hE1 := XE_fr f1 (by omega) hE
  have e1 : xI w1 256 10 = nI H.length := by rw [(f1.2.2.2 256 (by omega)).1]; exact k2
  have e2 : nI H.length + 1 = nI (H.length + 1) := n_add _ 1
  rw [e1, e2]
  refine ⟨XE_s hE1, XE_s hE1, by omega, rfl, ?_⟩
  refine q _ (xfS_trans (xfS_of f1 (by omega)) (xfS_u _)) ⟨XE_u hE1, XO_sr (w := w1) ⟨rfl, rfl⟩ (XO_fr f1 hO), XG_u (by omega) (XG_fr f1 (by omega) hG)⟩ ⟨by rw [List.length_cons]; omega, by rw [x_uI, if_pos ⟨rfl, rfl⟩, List.length_cons], ?_, fun k u hk => ?_⟩
  · refine ⟨?_, fun j hj => XP_sr (w := w1) ⟨rfl, rfl⟩ (XP_fr f1 (k3.2.1 j hj)), ?_⟩
    · rw [xR_uI, f1.2.2.1]; exact k3.1
    · rw [xR_uI, f1.2.2.1]; exact k3.2.2
  · rw [xR_uI, f1.2.2.1, List.length_cons]
    cases k with
    | zero =>
      simp at hk
      subst hk
      rw [show H.length + 1 - 1 - 0 = H.length from by omega]
      exact ⟨h16, XG_u (by omega) g1⟩
    | succ k =>
      simp at hk
      have hkl : k < H.length := by
        rcases Nat.lt_or_ge k H.length with z | z
        · exact z
        · rw [List.getElem?_eq_none z] at hk; cases hk
      have e3 : H.length + 1 - 1 - (k + 1) = H.length - 1 - k := by omega
      rw [e3]
      have ap := XKp_apart k3 (k := H.length) (l := H.length - 1 - k) hl (by omega) (by omega)
      have hr := (XKp_at k3 (k := H.length - 1 - k) (by omega)).2
      exact ⟨(k4 k u hk).1, XG_u (by omega) (XG_fr f1 (by omega) (k4 k u hk).2)⟩
theorem xR_uR (w : xw) (a k v i : Nat) (h : i ≠ a) : xR (xUpR w a k v) i = xR w i := (xUpR_ne w a k v i h).2.2
theorem x_uR (w : xw) (a k v k' : Nat) : xR (xUpR w a k v) a k' = if k' = k then v else xR w a k' := xUpR_at w a k v k'
theorem XE_R {B : Bd} {b : Nat} {w w' : xw} (g : XE B b w) (hS : xS w' = xS w) (hI : xI w' = xI w) (hL : xL w' = xL w) (hR : ∀ i, i ≠ 354 → xR w' i = xR w i) : XE B b w' := by
  obtain ⟨⟨t1, t2⟩, g1, g2, g3, g4, g5, g6⟩ := g
  have b1 : b ≠ 354 := by have := g1.1; omega
  have b2 : xR w b 4 ≠ 354 := by have := g2.1; omega
  have b3 : xR w (xR w b 4) 1 ≠ 354 := by have := g2.2.2.2.1; omega
  have b4 : xR w b 10 ≠ 354 := by have := g5.1; omega
  have b5 : xR w b 11 ≠ 354 := by have := g6.1; omega
  have e0 := hR 256 (by omega)
  have e1 := hR b b1
  have e2 := hR _ b2
  have e3 := hR _ b3
  have e4 := hR _ b4
  have e5 := hR _ b5
  refine ⟨⟨by rw [hS]; exact t1, by rw [e0]; exact t2⟩, ?_, ?_, ?_, ?_, ?_, ?_⟩
  · rw [hS, hI, hL]; exact g1
  · rw [hS, hI, e1, e2]; exact g2
  · rw [hS, hI, e1, e2, e3]; exact g3
  · rw [hS, hI, e1]; exact g4
  · rw [hS, hI, e1, e4]; exact g5
  · rw [hS, hL, e1, e5]; exact g6
/-- the first of the kept ones goes to the end -/
theorem x_keeps0 (hA : XA B b s w) (hH : XK B H w) (hl : H.length = 40)
    (q : ∀ w', xfS w w' → XA B b s w' → XK B (H.take 39) w' → ∀ {o1 o2 : Option Value}, T_X0_keeps Q 62 [some (.ref 256), o1, o2] [] w') : T_X0_keeps Q 18 [some (.ref 256), some (.ref (xR w 354 0)), some (.int (nI 1))] [] w := by
  obtain ⟨hE, hO, hG⟩ := hA
  obtain ⟨k1, k2, k3, k4⟩ := id hH
  have sh : ∀ w' : xw, xS w' = xS w → (∀ i, i ≠ 354 → xR w' i = xR w i) → (xS w' 256).1 = 1 ∧ xR w' 256 9 = 354 ∧ xS w' 354 = (56, 40) ∧ ∀ k, k < 40 → (xS w' (xR w 354 k)).1 = 6 ∧ xR w 354 k ≠ 0 := fun w' hS hR => ⟨by rw [hS]; exact XE_s hE, by rw [hR 256 (by omega)]; exact XO_9 hO, by rw [hS]; exact XO_s9 hO, fun k hk => ⟨by rw [hS]; exact XP_s (XKp_at k3 hk).1, by have := (XKp_at k3 hk).2; omega⟩⟩
  refine upTo 40 (fun k (w1 : xw) => 1 ≤ k ∧ (xN w1 = xN w ∧ xB w1 = xB w ∧ xS w1 = xS w ∧ xI w1 = xI w ∧ xL w1 = xL w) ∧ (∀ i, i ≠ 354 → xR w1 i = xR w i) ∧ (∀ j, j < k - 1 → xR w1 354 j = xR w 354 (j + 1)) ∧ ∀ j, k - 1 ≤ j → xR w1 354 j = xR w 354 j)
    (fun k w1 => T_X0_keeps Q 18 [some (.ref 256), some (.ref (xR w 354 0)), some (.int (nI k))] [] w1) ?_ ?_ 1 w (by omega) ⟨by omega, ⟨rfl, rfl, rfl, rfl, rfl⟩, fun _ _ => rfl, fun j hj => by omega, fun _ _ => rfl⟩
  · intro w1 ⟨_, ⟨eN, eB, eS, eI, eL⟩, eR, r1, r2⟩
    obtain ⟨c1, c2, c3, c4⟩ := sh w1 eS eR
    have e10 : xI w1 256 10 = nI 40 := by rw [eI, k2, hl]
    have e39 : nI 40 - nI 1 = nI 39 := n_sub (by omega)
    have c40 := c4 0 (by omega)
    refine r_X0_keeps_18 ?_
    generalize hw2 : xUpR w1 354 39 (xR w 354 0) = w2
    have i2 : xI w2 = xI w1 := by rw [← hw2]; rfl
    have s2 : xS w2 = xS w1 := by rw [← hw2]; rfl
    have q2 : xR w2 256 = xR w1 256 := by rw [← hw2]; exact xR_uR _ _ _ _ _ (by omega)
    have e10' : xI w2 256 10 = nI 40 := by rw [i2]; exact e10
    have c1' : (xS w2 256).1 = 1 := by rw [s2]; exact c1
    (try simp +decide (disch := omega) only [n_lit2, n_add, n_mul, n_tn, n_inT, n_ltT, n_ltF, n_leT, n_leF, n_eqT, n_eqF, n_eqm, n_meq, n_div, n_rem, nb_0, nb_1, nr_b, true_and, and_true, eq_self, Decidable.not_not, not_false_eq_true, not_true_eq_false, false_implies, true_implies, implies_true, Option.toList_some, Option.toList_none, List.cons_append, List.nil_append, xS_uI, xS_uL, xR_uI, xR_uL, xL_uI, xI_uL, xN_uI, xN_uL, xB_uI, xB_uL, add_nz, ge_256, and_self, c1, c2, c3, c40.1, c40.2, hw2, e10', c1', e39]); (try simp (disch := omega) only [lc_eq, lc_le, lc_lt, lc_ge, lc_gt, mb_t1, mb_t0, bI_0, bI_1, n_in, n_lt, n_le, n_eq, Bool.not_eq_false, Bool.not_eq_true, Decidable.not_not, true_and, c1, c2, c3, c40.1, c40.2, hw2, e10', c1', e39])
    have R2 : ∀ j, j < 40 → xR w2 354 j = xR w 354 ((j + 1) % 40) := fun j hj => by
      rw [← hw2, x_uR]
      by_cases z : j = 39
      · rw [if_pos z, z]
      · rw [if_neg z, r1 j (by omega), Nat.mod_eq_of_lt (by omega)]
    have R3 : ∀ i, i ≠ 354 → xR w2 i = xR w i := fun i hi => by rw [← hw2, xR_uR _ _ _ _ _ hi]; exact eR i hi
    have l2 : xL w2 = xL w := by rw [← hw2]; exact eL
    have n2 : xN w2 = xN w ∧ xB w2 = xB w := by rw [← hw2]; exact ⟨eN, eB⟩
    rw [eS] at s2
    rw [eI] at i2
    have hP2 : ∀ a, XP a w → XP a w2 := fun a h => by
      have hne : a ≠ 354 := fun z => by have := XP_s h; rw [z, XO_s9 hO] at this; cases this
      unfold XP at *
      rw [s2, R3 a hne]; exact h
    have hO2 : XO w2 := by
      obtain ⟨o1, o2, o3, o4, o5, o6⟩ := hO
      refine ⟨by rw [R3 256 (by omega)]; exact o1, by rw [s2]; exact o2, hP2 _ o3, hP2 _ o4, fun k hk => ⟨by rw [R3 _ (by omega)]; exact (o5 k hk).1, hP2 _ (o5 k hk).2⟩, fun k hk => ⟨by rw [R3 _ (by omega)]; exact (o6 k hk).1, hP2 _ (o6 k hk).2⟩⟩
    have hG2 : ∀ u a, XG B u a w → XG B u a w2 := fun u a h => by
      show XGv B u a (xI w2) (xL w2)
      rw [i2, l2]; exact h
    refine q (xUpI w2 256 10 (nI 39)) ⟨n2, ⟨s2, R3⟩, fun i hi _ => ⟨by rw [x_uI_ne hi, i2], by rw [xL_uI, l2]⟩, fun k h1 _ _ => by rw [x_uI, if_neg (by omega), i2], by rw [xL_uI, l2]⟩ ⟨XE_u (XE_R hE s2 i2 l2 R3), XO_sr (w := w2) ⟨rfl, rfl⟩ hO2, XG_u (by omega) (hG2 _ _ hG)⟩ ⟨by rw [List.length_take]; omega, by rw [x_uI, if_pos ⟨rfl, rfl⟩, List.length_take, hl]; rfl, ⟨fun k hk => ?_, fun j hj => XP_sr (w := w2) ⟨rfl, rfl⟩ (hP2 _ (k3.2.1 j hj)), fun k l hk hl2 hn => ?_⟩, fun k u hk => ?_⟩
    · rw [xR_uI, R2 k hk]; exact k3.1 _ (Nat.mod_lt _ (by omega))
    · rw [xR_uI, R2 k hk, R2 l hl2]
      exact k3.2.2 _ _ (Nat.mod_lt _ (by omega)) (Nat.mod_lt _ (by omega)) (by omega)
    · have hk39 : k < 39 := by
        rcases Nat.lt_or_ge k 39 with z | z
        · exact z
        · rw [List.getElem?_eq_none (by rw [List.length_take]; omega)] at hk; cases hk
      rw [List.getElem?_take_of_lt hk39] at hk
      obtain ⟨a1, a2⟩ := k4 k u hk
      rw [hl] at a2
      have e5 : (H.take 39).length - 1 - k = 38 - k := by rw [List.length_take]; omega
      refine ⟨a1, ?_⟩
      rw [e5, xR_uI, R2 _ (by omega), show (38 - k + 1) % 40 = 40 - 1 - k from by omega]
      have := (XKp_at k3 (k := 40 - 1 - k) (by omega)).2
      exact XG_u (by omega) (hG2 _ _ a2)
  · intro k w1 hk ⟨hk1, ⟨eN, eB, eS, eI, eL⟩, eR, r1, r2⟩ next
    obtain ⟨c1, c2, c3, c4⟩ := sh w1 eS eR
    have ek : nI k - nI 1 = nI (k - 1) := n_sub hk1
    have rk := r2 k (by omega)
    have ck := c4 k hk
    refine r_X0_keeps_18 ?_
    (try simp +decide (disch := omega) only [n_lit2, n_add, n_mul, n_tn, n_inT, n_ltT, n_ltF, n_leT, n_leF, n_eqT, n_eqF, n_eqm, n_meq, n_div, n_rem, nb_0, nb_1, nr_b, true_and, and_true, eq_self, Decidable.not_not, not_false_eq_true, not_true_eq_false, false_implies, true_implies, implies_true, Option.toList_some, Option.toList_none, List.cons_append, List.nil_append, xS_uI, xS_uL, xR_uI, xR_uL, xL_uI, xI_uL, xN_uI, xN_uL, xB_uI, xB_uL, add_nz, ge_256, and_self, c1, c2, c3, ek, rk, ck.1, ck.2]); (try simp (disch := omega) only [lc_eq, lc_le, lc_lt, lc_ge, lc_gt, mb_t1, mb_t0, bI_0, bI_1, n_in, n_lt, n_le, n_eq, Bool.not_eq_false, Bool.not_eq_true, Decidable.not_not, true_and, c1, c2, c3, ek, rk, ck.1, ck.2])
    refine next _ ⟨by omega, ⟨eN, eB, eS, eI, eL⟩, fun i hi => ?_, fun j hj => ?_, fun j hj => ?_⟩
    · rw [xR_uR _ _ _ _ _ hi]; exact eR i hi
    · rw [x_uR]
      by_cases z : j = k - 1
      · rw [if_pos z, z]
        congr 1; omega
      · rw [if_neg z]; exact r1 j (by omega)
    · rw [x_uR, if_neg (by omega)]; exact r2 j (by omega)
theorem x_keeps (hA : XA B b s w) (h16 : (gO s).length ≤ 16) (hH : XK B H w)
    (q : ∀ w', xfS w w' → XA B b s w' → XK B ((s :: H).take 40) w' → Q none w') : V_X0_keeps [.ref 256] w Q := by
  obtain ⟨k1, k2, k3, k4⟩ := id hH
  have hE := hA.1
  have hO := hA.2.1
  have hc := XKp_at k3 (k := 0) (by omega)
  refine e_X0_keeps (r_X0_keeps_0 ?_)
  by_cases hl : H.length = 40
  · rw [hl] at k2
    have n0 : (xR w 354 0 = 0) = False := eq_false (by omega)
    (try simp +decide (disch := omega) only [n_lit2, n_add, n_mul, n_tn, n_inT, n_ltT, n_ltF, n_leT, n_leF, n_eqT, n_eqF, n_eqm, n_meq, n_div, n_rem, nb_0, nb_1, nr_b, true_and, and_true, eq_self, Decidable.not_not, not_false_eq_true, not_true_eq_false, false_implies, true_implies, implies_true, Option.toList_some, Option.toList_none, List.cons_append, List.nil_append, xS_uI, xS_uL, xR_uI, xR_uL, xL_uI, xI_uL, xN_uI, xN_uL, xB_uI, xB_uL, add_nz, ge_256, and_self, XE_s hE, XO_9 hO, XO_s9 hO, k2, n0]); (try simp (disch := omega) only [lc_eq, lc_le, lc_lt, lc_ge, lc_gt, mb_t1, mb_t0, bI_0, bI_1, n_in, n_lt, n_le, n_eq, Bool.not_eq_false, Bool.not_eq_true, Decidable.not_not, true_and, XE_s hE, XO_9 hO, XO_s9 hO, k2, n0])
    refine x_keeps0 hA hH hl (fun w1 f1 a1 h1 {o1 o2} => x_keeps1 a1 h16 h1 (by rw [List.length_take]; omega) (fun w2 f2 a2 h2 => q w2 (xfS_trans f1 f2) a2 ?_))
    rw [List.take_succ_cons]; exact h2
  · (try simp +decide (disch := omega) only [n_lit2, n_add, n_mul, n_tn, n_inT, n_ltT, n_ltF, n_leT, n_leF, n_eqT, n_eqF, n_eqm, n_meq, n_div, n_rem, nb_0, nb_1, nr_b, true_and, and_true, eq_self, Decidable.not_not, not_false_eq_true, not_true_eq_false, false_implies, true_implies, implies_true, Option.toList_some, Option.toList_none, List.cons_append, List.nil_append, xS_uI, xS_uL, xR_uI, xR_uL, xL_uI, xI_uL, xN_uI, xN_uL, xB_uI, xB_uL, add_nz, ge_256, and_self, XE_s hE, k2]); (try simp (disch := omega) only [lc_eq, lc_le, lc_lt, lc_ge, lc_gt, mb_t1, mb_t0, bI_0, bI_1, n_in, n_lt, n_le, n_eq, Bool.not_eq_false, Bool.not_eq_true, Decidable.not_not, true_and, XE_s hE, k2])
    refine x_keeps1 hA h16 hH (by omega) (fun w2 f2 a2 h2 => q w2 f2 a2 ?_)
    rw [List.take_of_length_le (by rw [List.length_cons]; omega)]; exact h2
theorem x_undo (hA : XA B b s w) (hH : XK B H w)
    (q0 : H = [] → Q (some (.int (nI 0))) w) (q1 : ∀ t R, H = t :: R → ∀ w', xfS w w' → XA B b t w' → XK B R w' → Q (some (.int (nI 1))) w') : V_X0_undo [.ref 256] w Q := by
  obtain ⟨hE, hO, hG⟩ := hA
  obtain ⟨k1, k2, k3, k4⟩ := id hH
  refine e_X0_undo (r_X0_undo_0 ?_)
  cases H with
  | nil =>
    have k2' : xI w 256 10 = nI 0 := k2
    (try simp +decide (disch := omega) only [n_lit2, n_add, n_mul, n_tn, n_inT, n_ltT, n_ltF, n_leT, n_leF, n_eqT, n_eqF, n_eqm, n_meq, n_div, n_rem, nb_0, nb_1, nr_b, true_and, and_true, eq_self, Decidable.not_not, not_false_eq_true, not_true_eq_false, false_implies, true_implies, implies_true, Option.toList_some, Option.toList_none, List.cons_append, List.nil_append, xS_uI, xS_uL, xR_uI, xR_uL, xL_uI, xI_uL, xN_uI, xN_uL, xB_uI, xB_uL, add_nz, ge_256, and_self, XE_s hE, k2']); (try simp (disch := omega) only [lc_eq, lc_le, lc_lt, lc_ge, lc_gt, mb_t1, mb_t0, bI_0, bI_1, n_in, n_lt, n_le, n_eq, Bool.not_eq_false, Bool.not_eq_true, Decidable.not_not, true_and, XE_s hE, k2'])
    exact q0 rfl
  | cons t R =>
    rw [List.length_cons] at k1 k2
    have e1 : nI (R.length + 1) - nI 1 = nI R.length := n_sub (a := R.length + 1) (b := 1) (by omega)
    obtain ⟨h16, hg⟩ := k4 0 t rfl
    rw [List.length_cons, show R.length + 1 - 1 - 0 = R.length from by omega] at hg
    have hc := XKp_at k3 (k := R.length) (by omega)
    have n0 : (xR w 354 R.length = 0) = False := eq_false (by omega)
    have e10 : ∀ v, xI (xUpI w 256 10 v) 256 10 = v := fun v => by rw [x_uI, if_pos ⟨rfl, rfl⟩]
    (try simp +decide (disch := omega) only [n_lit2, n_add, n_mul, n_tn, n_inT, n_ltT, n_ltF, n_leT, n_leF, n_eqT, n_eqF, n_eqm, n_meq, n_div, n_rem, nb_0, nb_1, nr_b, true_and, and_true, eq_self, Decidable.not_not, not_false_eq_true, not_true_eq_false, false_implies, true_implies, implies_true, Option.toList_some, Option.toList_none, List.cons_append, List.nil_append, xS_uI, xS_uL, xR_uI, xR_uL, xL_uI, xI_uL, xN_uI, xN_uL, xB_uI, xB_uL, add_nz, ge_256, and_self, XE_s hE, XO_9 hO, XO_s9 hO, XO_7 hO, XP_s (XO_n hO), k2, e1, e10, n0]); (try simp (disch := omega) only [lc_eq, lc_le, lc_lt, lc_ge, lc_gt, mb_t1, mb_t0, bI_0, bI_1, n_in, n_lt, n_le, n_eq, Bool.not_eq_false, Bool.not_eq_true, Decidable.not_not, true_and, XE_s hE, XO_9 hO, XO_s9 hO, XO_7 hO, XP_s (XO_n hO), k2, e1, e10, n0])
    have hOu : XO (xUpI w 256 10 (nI R.length)) := XO_sr (w := w) ⟨rfl, rfl⟩ hO
    refine x_copy (XO_n hOu) (XP_sr (w := w) ⟨rfl, rfl⟩ hc.1) (by omega) (XG_u (by omega) hg) h16 (fun w1 f1 g1 => r_X0_undo_35 ⟨nb_1, ?_⟩)
    refine q1 t R rfl w1 (xfS_trans (xfS_u _) (xfS_of f1 (by omega))) ⟨XE_fr f1 (by omega) (XE_u hE), XO_fr f1 hOu, g1⟩ (XK_fr f1 (by omega) ⟨by omega, e10 _, ⟨k3.1, fun j hj => XP_sr (w := w) ⟨rfl, rfl⟩ (k3.2.1 j hj), k3.2.2⟩, fun k u hk => ?_⟩)
    obtain ⟨a1, a2⟩ := k4 (k + 1) u (by simp; exact hk)
    have hkl : k < R.length := by
      rcases Nat.lt_or_ge k R.length with z | z
      · exact z
      · rw [List.getElem?_eq_none z] at hk; cases hk
    rw [List.length_cons, show R.length + 1 - 1 - (k + 1) = R.length - 1 - k from by omega] at a2
    have := (XKp_at k3 (k := R.length - 1 - k) (by omega)).2
    exact ⟨a1, XG_u (by show 256 < xR w 354 _; omega) a2⟩
end
