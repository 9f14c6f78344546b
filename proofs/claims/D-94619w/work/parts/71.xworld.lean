/-! X's world: the object at 256, states at 345 .. 793, the border elsewhere -/
theorem xS_uI (w : xw) (a k : Nat) (v : Int32) : xS (xUpI w a k v) = xS w := rfl
theorem xS_uL (w : xw) (a k : Nat) (v : Int64) : xS (xUpL w a k v) = xS w := rfl
theorem xR_uI (w : xw) (a k : Nat) (v : Int32) : xR (xUpI w a k v) = xR w := rfl
theorem xR_uL (w : xw) (a k : Nat) (v : Int64) : xR (xUpL w a k v) = xR w := rfl
theorem xL_uI (w : xw) (a k : Nat) (v : Int32) : xL (xUpI w a k v) = xL w := rfl
theorem xI_uL (w : xw) (a k : Nat) (v : Int64) : xI (xUpL w a k v) = xI w := rfl
theorem xN_uI (w : xw) (a k : Nat) (v : Int32) : xN (xUpI w a k v) = xN w := rfl
theorem xN_uL (w : xw) (a k : Nat) (v : Int64) : xN (xUpL w a k v) = xN w := rfl
theorem xB_uI (w : xw) (a k : Nat) (v : Int32) : xB (xUpI w a k v) = xB w := rfl
theorem xB_uL (w : xw) (a k : Nat) (v : Int64) : xB (xUpL w a k v) = xB w := rfl
theorem x_uI (w : xw) (a k : Nat) (v : Int32) (i j : Nat) : xI (xUpI w a k v) i j = if i = a ∧ j = k then v else xI w i j := rfl
theorem x_uL (w : xw) (a k : Nat) (v : Int64) (i j : Nat) : xL (xUpL w a k v) i j = if i = a ∧ j = k then v else xL w i j := rfl
theorem add_nz (a k : Nat) : (a + (k + 1) = 0) = False := by simp
theorem ge_256 {a : Nat} (h : 256 ≤ a) : (256 ≤ a) = True := eq_true h
abbrev far (i : Nat) : Prop := i ≠ 0 ∧ i ≠ 256 ∧ (i < 345 ∨ 793 < i)
/-- only cells lo .. hi differ, and no reference -/
def xfr (lo hi : Nat) (w w' : xw) : Prop := (xN w' = xN w ∧ xB w' = xB w) ∧ xS w' = xS w ∧ xR w' = xR w ∧ ∀ i, (i < lo ∨ hi < i) → xI w' i = xI w i ∧ xL w' i = xL w i
theorem xfr_refl (lo hi : Nat) (w : xw) : xfr lo hi w w := ⟨⟨rfl, rfl⟩, rfl, rfl, fun _ _ => ⟨rfl, rfl⟩⟩
theorem xfr_trans {a b c d lo hi : Nat} {w w1 w2 : xw} (h : xfr a b w w1) (g : xfr c d w1 w2) (h1 : lo ≤ a ∧ b ≤ hi) (h2 : lo ≤ c ∧ d ≤ hi) : xfr lo hi w w2 :=
  ⟨⟨g.1.1.trans h.1.1, g.1.2.trans h.1.2⟩, g.2.1.trans h.2.1, g.2.2.1.trans h.2.2.1, fun i hi => by
    have q1 := h.2.2.2 i (by omega)
    have q2 := g.2.2.2 i (by omega)
    exact ⟨q2.1.trans q1.1, q2.2.trans q1.2⟩⟩
theorem xfr_wk {a b lo hi : Nat} {w w1 : xw} (h : xfr a b w w1) (h1 : lo ≤ a ∧ b ≤ hi) : xfr lo hi w w1 := ⟨h.1, h.2.1, h.2.2.1, fun i hi => h.2.2.2 i (by omega)⟩
theorem xfr_uI {lo hi : Nat} (w : xw) {a : Nat} (k : Nat) (v : Int32) (h : lo ≤ a ∧ a ≤ hi) : xfr lo hi w (xUpI w a k v) := ⟨⟨rfl, rfl⟩, rfl, rfl, fun i hi => ⟨(xUpI_ne w a k v i (by omega)).1, rfl⟩⟩
theorem xfr_uL {lo hi : Nat} (w : xw) {a : Nat} (k : Nat) (v : Int64) (h : lo ≤ a ∧ a ≤ hi) : xfr lo hi w (xUpL w a k v) := ⟨⟨rfl, rfl⟩, rfl, rfl, fun i hi => ⟨rfl, (xUpL_ne w a k v i (by omega)).2.1⟩⟩
/-! a state's cells -/
def XP (a : Nat) (w : xw) : Prop := ((xS w a).1 = 6 ∧ 345 ≤ a ∧ a + 7 ≤ 793) ∧ xR w a 2 = a + 1 ∧ xR w a 3 = a + 2 ∧ xR w a 7 = a + 3 ∧ xR w a 8 = a + 4 ∧ xR w a 9 = a + 5 ∧ xR w a 11 = a + 6 ∧ xR w a 12 = a + 7 ∧ xR w a 13 = 256 ∧ xS w (a + 1) = (52, 2) ∧ xS w (a + 2) = (52, 2) ∧ xS w (a + 3) = (51, 36) ∧ xS w (a + 4) = (51, 36) ∧ xS w (a + 5) = (52, 16) ∧ xS w (a + 6) = (52, 16) ∧ xS w (a + 7) = (52, 16)
section
variable {a : Nat} {w : xw}
theorem XP_s (h : XP a w) : (xS w a).1 = 6 := h.1.1
theorem XP_ge (h : XP a w) : 345 ≤ a ∧ a + 7 ≤ 793 := h.1.2
theorem XP_r2 (h : XP a w) : xR w a 2 = a + 1 := h.2.1
theorem XP_r3 (h : XP a w) : xR w a 3 = a + 2 := h.2.2.1
theorem XP_r7 (h : XP a w) : xR w a 7 = a + 3 := h.2.2.2.1
theorem XP_r8 (h : XP a w) : xR w a 8 = a + 4 := h.2.2.2.2.1
theorem XP_r9 (h : XP a w) : xR w a 9 = a + 5 := h.2.2.2.2.2.1
theorem XP_r11 (h : XP a w) : xR w a 11 = a + 6 := h.2.2.2.2.2.2.1
theorem XP_r12 (h : XP a w) : xR w a 12 = a + 7 := h.2.2.2.2.2.2.2.1
theorem XP_r13 (h : XP a w) : xR w a 13 = 256 := h.2.2.2.2.2.2.2.2.1
theorem XP_s1 (h : XP a w) : xS w (a + 1) = (52, 2) := h.2.2.2.2.2.2.2.2.2.1
theorem XP_s2 (h : XP a w) : xS w (a + 2) = (52, 2) := h.2.2.2.2.2.2.2.2.2.2.1
theorem XP_s3 (h : XP a w) : xS w (a + 3) = (51, 36) := h.2.2.2.2.2.2.2.2.2.2.2.1
theorem XP_s4 (h : XP a w) : xS w (a + 4) = (51, 36) := h.2.2.2.2.2.2.2.2.2.2.2.2.1
theorem XP_s5 (h : XP a w) : xS w (a + 5) = (52, 16) := h.2.2.2.2.2.2.2.2.2.2.2.2.2.1
theorem XP_s6 (h : XP a w) : xS w (a + 6) = (52, 16) := h.2.2.2.2.2.2.2.2.2.2.2.2.2.2.1
theorem XP_s7 (h : XP a w) : xS w (a + 7) = (52, 16) := h.2.2.2.2.2.2.2.2.2.2.2.2.2.2.2
end
theorem XP_fr {lo hi a : Nat} {w w' : xw} (h : xfr lo hi w w') (g : XP a w) : XP a w' := by
  unfold XP at *
  rw [h.2.1, h.2.2.1]; exact g
/-- the border of the object -/
def XT (b : Nat) (w : xw) : Prop := (xS w 256).1 = 1 ∧ xR w 256 0 = b
theorem XT_s {b : Nat} {w : xw} (h : XT b w) : (xS w 256).1 = 1 := h.1
theorem XT_b {b : Nat} {w : xw} (h : XT b w) : xR w 256 0 = b := h.2
theorem XT_fr {lo hi b : Nat} {w w' : xw} (h : xfr lo hi w w') (g : XT b w) : XT b w' := by
  unfold XT at *
  rw [h.2.1, h.2.2.1]; exact g
def rimL (B : Bd) : Int64 := bldL (fun p => decide (edgG B p = 0)) (bN B)
def XBv (B : Bd) (b : Nat) (S : Nat → Nat × Nat) (R : Nat → Nat → Nat) (I : Nat → Nat → Int32) (L : Nat → Nat → Int64) : Prop :=
  (far b ∧ (S b).1 = 2 ∧ I b 0 = nI (bW B) ∧ I b 1 = nI (bH B) ∧ L b 12 = rimL B) ∧
  (far (R b 4) ∧ (S (R b 4)).1 = 17 ∧ I (R b 4) 2 = nI (bK B) ∧ far (R (R b 4) 1) ∧ (S (R (R b 4) 1)).1 = 55 ∧ bK B ≤ (S (R (R b 4) 1)).2) ∧
  (∀ k, k < bK B → far (R (R (R b 4) 1) k) ∧ (S (R (R (R b 4) 1) k)).1 = 7 ∧ I (R (R (R b 4) 1) k) 1 = nI (bR B k) ∧ I (R (R (R b 4) 1) k) 2 = nI (bM B k)) ∧
  (far (R b 9) ∧ S (R b 9) = (51, 36) ∧ ∀ p, p < bN B → I (R b 9) p = nI (bV B p)) ∧
  (far (R b 10) ∧ S (R b 10) = (58, 36) ∧ ∀ p, p < 36 → far (R (R b 10) p) ∧ S (R (R b 10) p) = (51, 36) ∧ ∀ q, p < bN B → q < bN B → I (R (R b 10) p) q = nI (stp (bW B) p q)) ∧
  (far (R b 11) ∧ S (R b 11) = (59, 36) ∧ ∀ p, p < 36 → far (R (R b 11) p) ∧ S (R (R b 11) p) = (52, 36) ∧ ∀ q, p < bN B → q < bN B → L (R (R b 11) p) q = betG (bW B) p q)
abbrev XB (B : Bd) (b : Nat) (w : xw) : Prop := XBv B b (xS w) (xR w) (xI w) (xL w)
theorem XBv_cong {B : Bd} {b : Nat} {S : Nat → Nat × Nat} {R : Nat → Nat → Nat} {I I' : Nat → Nat → Int32} {L L' : Nat → Nat → Int64} (h : XBv B b S R I L) (hI : ∀ i, far i → I' i = I i) (hL : ∀ i, far i → L' i = L i) : XBv B b S R I' L' := by
  obtain ⟨⟨a1, a2, a3, a4, a5⟩, ⟨b1, b2, b3, b4⟩, c, ⟨d1, d2, d3⟩, ⟨e1, e2, e3⟩, ⟨f1, f2, f3⟩⟩ := h
  refine ⟨⟨a1, a2, by rw [hI _ a1]; exact a3, by rw [hI _ a1]; exact a4, by rw [hL _ a1]; exact a5⟩, ⟨b1, b2, by rw [hI _ b1]; exact b3, b4⟩, fun k hk => ?_, ⟨d1, d2, fun p hp => by rw [hI _ d1]; exact d3 p hp⟩, ⟨e1, e2, fun p hp => ?_⟩, ⟨f1, f2, fun p hp => ?_⟩⟩
  · obtain ⟨k1, k2, k3, k4⟩ := c k hk
    exact ⟨k1, k2, by rw [hI _ k1]; exact k3, by rw [hI _ k1]; exact k4⟩
  · obtain ⟨k1, k2, k3⟩ := e3 p hp
    exact ⟨k1, k2, fun q h1 h2 => by rw [hI _ k1]; exact k3 q h1 h2⟩
  · obtain ⟨k1, k2, k3⟩ := f3 p hp
    exact ⟨k1, k2, fun q h1 h2 => by rw [hL _ k1]; exact k3 q h1 h2⟩
theorem XB_fr {lo hi b : Nat} {w w' : xw} {B : Bd} (h : xfr lo hi w w') (h1 : 345 ≤ lo ∧ hi ≤ 793) (g : XB B b w) : XB B b w' := by
  show XBv B b (xS w') (xR w') (xI w') (xL w')
  rw [h.2.1, h.2.2.1]
  exact XBv_cong g (fun i hi => (h.2.2.2 i (by omega)).1) (fun i hi => (h.2.2.2 i (by omega)).2)
/-- the object, its border: what every method needs -/
def XE (B : Bd) (b : Nat) (w : xw) : Prop := XT b w ∧ XB B b w
theorem XE_fr {lo hi b : Nat} {w w' : xw} {B : Bd} (h : xfr lo hi w w') (h1 : 345 ≤ lo ∧ hi ≤ 793) (g : XE B b w) : XE B b w' := ⟨XT_fr h g.1, XB_fr h h1 g.2⟩
theorem XE_s {B : Bd} {b : Nat} {w : xw} (h : XE B b w) : (xS w 256).1 = 1 := h.1.1
theorem XE_b {B : Bd} {b : Nat} {w : xw} (h : XE B b w) : xR w 256 0 = b := h.1.2
theorem XE_bs {B : Bd} {b : Nat} {w : xw} (h : XE B b w) : (xS w b).1 = 2 := h.2.1.2.1
theorem XE_b0 {B : Bd} {b : Nat} {w : xw} (h : XE B b w) : (b = 0) = False := eq_false h.2.1.1.1
theorem XE_w {B : Bd} {b : Nat} {w : xw} (h : XE B b w) : xI w b 0 = nI (bW B) := h.2.1.2.2.1
theorem XE_h {B : Bd} {b : Nat} {w : xw} (h : XE B b w) : xI w b 1 = nI (bH B) := h.2.1.2.2.2.1
theorem XE_rim {B : Bd} {b : Nat} {w : xw} (h : XE B b w) : xL w b 12 = rimL B := h.2.1.2.2.2.2
theorem XE_k0 {B : Bd} {b : Nat} {w : xw} (h : XE B b w) : (xR w b 4 = 0) = False := eq_false h.2.2.1.1.1
theorem XE_ks {B : Bd} {b : Nat} {w : xw} (h : XE B b w) : (xS w (xR w b 4)).1 = 17 := h.2.2.1.2.1
theorem XE_kn {B : Bd} {b : Nat} {w : xw} (h : XE B b w) : xI w (xR w b 4) 2 = nI (bK B) := h.2.2.1.2.2.1
theorem XE_v0 {B : Bd} {b : Nat} {w : xw} (h : XE B b w) : (xR w b 9 = 0) = False := eq_false h.2.2.2.2.1.1.1
theorem XE_vs {B : Bd} {b : Nat} {w : xw} (h : XE B b w) : xS w (xR w b 9) = (51, 36) := h.2.2.2.2.1.2.1
theorem XE_t0 {B : Bd} {b : Nat} {w : xw} (h : XE B b w) : (xR w b 10 = 0) = False := eq_false h.2.2.2.2.2.1.1.1
theorem XE_ts {B : Bd} {b : Nat} {w : xw} (h : XE B b w) : xS w (xR w b 10) = (58, 36) := h.2.2.2.2.2.1.2.1
theorem XE_u0 {B : Bd} {b : Nat} {w : xw} (h : XE B b w) : (xR w b 11 = 0) = False := eq_false h.2.2.2.2.2.2.1.1
theorem XE_us {B : Bd} {b : Nat} {w : xw} (h : XE B b w) : xS w (xR w b 11) = (59, 36) := h.2.2.2.2.2.2.2.1
/-! small methods -/
section
variable {Q : Option Value → xw → Prop} {w : xw} {B : Bd} {b : Nat}
theorem x_places (hE : XE B b w) (q : Q (some (.int (nI (bN B)))) w) : V_X1_places [.ref b] w Q := by
  refine e_X1_places (r_X1_places_0 ⟨XE_bs hE, XE_bs hE, trivial, ?_⟩)
  rw [XE_w hE, XE_h hE, n_mul]; exact q
theorem x_placeMany (hE : XE B b w) (q : Q (some (.int (nI (bN B)))) w) : V_X0_placeMany [.ref 256] w Q := by
  refine e_X0_placeMany (r_X0_placeMany_0 ?_)
  rw [XE_b hE]
  exact ⟨XE_s hE, hE.2.1.1.1, XE_bs hE, x_places hE (r_X0_placeMany_7 ⟨trivial, q⟩)⟩
theorem x_is (a c d : Int32) (q : Q (some (.int (bI (decide (c.toInt ≤ a.toInt ∧ a.toInt ≤ d.toInt))))) w) : V_X0_is [.int a, .int c, .int d] w Q := by
  refine e_X0_is (r_X0_is_0 ⟨fun h => ⟨nr_0, ?_⟩, fun h => ⟨fun h2 => ⟨nr_0, ?_⟩, fun h2 => ⟨nr_1, ?_⟩⟩⟩)
  · rw [Int32.lt_iff_toInt_lt] at h
    rw [decide_eq_false (by omega)] at q; exact q
  · rw [Int32.lt_iff_toInt_lt] at h h2
    rw [decide_eq_false (by omega)] at q; exact q
  · rw [Int32.lt_iff_toInt_lt] at h h2
    rw [decide_eq_true (by omega)] at q; exact q
theorem i_0 : (0 : Int32).toInt = 0 := rfl
theorem i_1 : (1 : Int32).toInt = 1 := rfl
theorem x_isPlace (hN : bN B ≤ 36) (hE : XE B b w) (a : Int32) (q : Q (some (.int (bI (decide (0 ≤ a.toInt ∧ a.toInt < bN B))))) w) : V_X0_isPlace [.ref 256, .int a] w Q := by
  refine e_X0_isPlace (r_X0_isPlace_0 ⟨fun h => ⟨nr_0, ?_⟩, fun h => ⟨XE_s hE, x_placeMany hE (r_X0_isPlace_9 ⟨fun h2 => ⟨nr_0, ?_⟩, fun h2 => ⟨nr_1, ?_⟩⟩)⟩⟩)
  · rw [Int32.lt_iff_toInt_lt, i_0] at h
    rw [decide_eq_false (by omega)] at q; exact q
  · rw [Int32.le_iff_toInt_le, n_T (by omega)] at h2
    rw [decide_eq_false (by omega)] at q; exact q
  · rw [Int32.lt_iff_toInt_lt, i_0] at h
    rw [Int32.le_iff_toInt_le, n_T (by omega)] at h2
    rw [decide_eq_true (by omega)] at q; exact q
theorem x_size (hE : XE B b w) (q : Q (some (.int (nI (bK B)))) w) : V_J2_size [.ref (xR w b 4)] w Q := by
  refine e_J2_size (r_J2_size_0 ⟨XE_ks hE, trivial, ?_⟩)
  rw [XE_kn hE]; exact q
theorem x_isKind (hK : bK B ≤ 5) (hE : XE B b w) (a : Int32) (q : Q (some (.int (bI (decide (0 ≤ a.toInt ∧ a.toInt < bK B))))) w) : V_X0_isKind [.ref 256, .int a] w Q := by
  refine e_X0_isKind (r_X0_isKind_0 ⟨fun h => ⟨nr_0, ?_⟩, fun h => ?_⟩)
  · rw [Int32.lt_iff_toInt_lt, i_0] at h
    rw [decide_eq_false (by omega)] at q; exact q
  rw [Int32.lt_iff_toInt_lt, i_0] at h
  rw [XE_b hE]
  refine ⟨XE_s hE, hE.2.1.1.1, XE_bs hE, hE.2.2.1.1.1, XE_ks hE, x_size hE (r_X0_isKind_17 ⟨fun h2 => ⟨nr_0, ?_⟩, fun h2 => ⟨nr_1, ?_⟩⟩)⟩
  · rw [Int32.le_iff_toInt_le, n_T (by omega)] at h2
    rw [decide_eq_false (by omega)] at q; exact q
  · rw [Int32.le_iff_toInt_le, n_T (by omega)] at h2
    rw [decide_eq_true (by omega)] at q; exact q
theorem x_isSide (a : Int32) (q : Q (some (.int (bI (decide (0 ≤ a.toInt ∧ a.toInt < (2 : Nat)))))) w) : V_X0_isSide [.int a] w Q := by
  refine e_X0_isSide (r_X0_isSide_0 ⟨fun h => ⟨nr_1, ?_⟩, fun h => ⟨fun h2 => ⟨nr_0, ?_⟩, fun h2 => ⟨nr_1, ?_⟩⟩⟩)
  · subst h
    rw [decide_eq_true (by rw [i_0]; omega)] at q; exact q
  · rw [← Int32.toInt_inj, i_0] at h
    rw [← Int32.toInt_inj, i_1] at h2
    rw [decide_eq_false (by omega)] at q; exact q
  · rw [Decidable.not_not] at h2
    subst h2
    rw [decide_eq_true (by rw [i_1]; omega)] at q; exact q
/-- a list's element -/
theorem x_lget {l n k v : Nat} (h1 : (xS w l).1 = 17) (h2 : xI w l 2 = nI n) (hn : n < 2147483648) (h3 : xR w l 1 ≠ 0) (h4 : (xS w (xR w l 1)).1 = 55) (h5 : n ≤ (xS w (xR w l 1)).2) (hk : k < n) (h6 : xR w (xR w l 1) k = v) (h7 : v ≠ 0) (q : Q (some (.ref v)) w) : V_J2_get [.ref l, .int (nI k)] w Q := by
  refine e_J2_get (r_J2_get_0 ⟨h1, e_J12_checkIndex (r_J12_checkIndex_0 (e_J8_checkIndex (r_J8_checkIndex_0 ?_)))⟩)
  rw [h2]
  have z0 : (0 : Int32) = nI 0 := rfl
  refine ⟨fun c => ?_, fun _ => ⟨fun _ => ⟨trivial, r_J12_checkIndex_6 ⟨trivial, r_J2_get_8 ⟨h1, e_J2_elementData (r_J2_elementData_0 ?_)⟩⟩⟩, fun c => ?_⟩⟩
  · rw [z0, n_lt (by omega) (by omega)] at c; omega
  · rw [n_tn (by omega), h6]
    exact ⟨h1, h3, by omega, (n_in (by omega)).mpr (by omega), h7, ⟨_, rfl, rfl⟩, r_J2_get_14 ⟨⟨_, rfl, rfl⟩, q⟩⟩
  · rw [n_lt (by omega) (by omega)] at c; omega
abbrev kAt (w : xw) (b k : Nat) : Nat := xR w (xR w (xR w b 4) 1) k
theorem x_kind (hK : bK B ≤ 5) (hE : XE B b w) {k : Nat} (hk : k < bK B) (q : (xS w (kAt w b k)).1 = 7 → kAt w b k ≠ 0 → xI w (kAt w b k) 1 = nI (bR B k) → xI w (kAt w b k) 2 = nI (bM B k) → Q (some (.ref (kAt w b k))) w) : V_X1_kind [.ref b, .int (nI k)] w Q := by
  obtain ⟨k1, k2, k3, k4⟩ := hE.2.2.2.1 k hk
  obtain ⟨c1, c2, c3, c4, c5, c6⟩ := hE.2.2.1
  exact e_X1_kind (r_X1_kind_0 ⟨XE_bs hE, c1.1, c2, x_lget c2 c3 (by omega) c4.1 c5 (by omega) hk rfl k1.1 (r_X1_kind_10 ⟨k2, ⟨_, rfl, rfl⟩, q k2 k1.1 k3 k4⟩)⟩)
theorem x_khas {a m i n : Nat} (h1 : (xS w a).1 = 7) (h2 : xI w a 2 = nI n) (hn : n < 8) (hm : m = 1 ∧ i = 0 ∨ m = 2 ∧ i = 1 ∨ m = 4 ∧ i = 2) (q : Q (some (.int (bI (n.testBit i)))) w) : V_X7_has [.ref a, .int (nI m)] w Q := by
  have key : (nI n &&& nI m = nI 0) ↔ n.testBit i = false := by
    rcases hm with ⟨e1, e2⟩ | ⟨e1, e2⟩ | ⟨e1, e2⟩ <;> subst e1 <;> subst e2
    · exact tb0 hn
    · exact tb1 hn
    · exact tb2 hn
  refine e_X7_has (r_X7_has_0 ⟨h1, ?_⟩)
  rw [h2]
  refine ⟨fun c => ⟨nr_0, ?_⟩, fun c => ⟨nr_1, ?_⟩⟩
  · rw [key.mp c] at q; exact q
  · have : n.testBit i = true := by
      cases z : n.testBit i with
      | true => rfl
      | false => exact absurd (key.mpr z) c
    rw [this] at q; exact q
end
/-! a state -/
def stL (st : Nat → Nat) (x : Nat) : Int64 := bldL (fun p => isOfG st p x) 36
def ldL (l : Nat → Nat) (x : Nat) : Int64 := bldL (fun p => decide (l p = 1 + x)) 36
def mkL (B : Bd) (st : Nat → Nat) (i : Nat) : Int64 := bldL (fun p => decide (st p ≠ 0) && mkG B st p i) 36
theorem mb_stL (st : Nat → Nat) (x : Nat) {p : Nat} (hp : p < 64) : mb (stL st x) p = (decide (p < 36) && isOfG st p x) := mb_bldL _ (by omega) hp
theorem mb_ldL (l : Nat → Nat) (x : Nat) {p : Nat} (hp : p < 64) : mb (ldL l x) p = (decide (p < 36) && decide (l p = 1 + x)) := mb_bldL _ (by omega) hp
theorem mb_mkL (B : Bd) (st : Nat → Nat) (i : Nat) {p : Nat} (hp : p < 64) : mb (mkL B st i) p = (decide (p < 36) && (decide (st p ≠ 0) && mkG B st p i)) := mb_bldL _ (by omega) hp
def XGv (B : Bd) (s : GS) (a : Nat) (I : Nat → Nat → Int32) (L : Nat → Nat → Int64) : Prop :=
  I a 0 = nI (gD s) ∧ I a 1 = nI (gO s).length ∧ lsL (gO s) (L (a + 5)) ∧ (∀ x, x < 2 → L (a + 1) x = stL (gS s) x) ∧ (∀ x, x < 2 → L (a + 2) x = ldL (gL s) x) ∧ (∀ p, p < 36 → gS s p ≠ 0 → I (a + 3) p = nI (kdG (gS s) p)) ∧ (∀ p, p < 36 → I (a + 4) p = gC s p) ∧ L a 4 = mkL B (gS s) 0 ∧ L a 5 = mkL B (gS s) 1 ∧ L a 6 = mkL B (gS s) 2
abbrev XG (B : Bd) (s : GS) (a : Nat) (w : xw) : Prop := XGv B s a (xI w) (xL w)
theorem XG_fr {lo hi a : Nat} {w w' : xw} {B : Bd} {s : GS} (h : xfr lo hi w w') (h1 : a + 7 < lo ∨ hi < a) (g : XG B s a w) : XG B s a w' := by
  obtain ⟨g1, g2, g3, g4, g5, g6, g7, g8, g9, g10⟩ := g
  have e := fun i (hi : a ≤ i ∧ i ≤ a + 7) => h.2.2.2 i (by omega)
  refine ⟨?_, ?_, ?_, ?_, ?_, ?_, ?_, ?_, ?_, ?_⟩
  · rw [(e a (by omega)).1]; exact g1
  · rw [(e a (by omega)).1]; exact g2
  · rw [(e (a + 5) (by omega)).2]; exact g3
  · rw [(e (a + 1) (by omega)).2]; exact g4
  · rw [(e (a + 2) (by omega)).2]; exact g5
  · rw [(e (a + 3) (by omega)).1]; exact g6
  · rw [(e (a + 4) (by omega)).1]; exact g7
  · rw [(e a (by omega)).2]; exact g8
  · rw [(e a (by omega)).2]; exact g9
  · rw [(e a (by omega)).2]; exact g10
def allL (st : Nat → Nat) : Int64 := stL st 0 ||| stL st 1
theorem isOf_or (st : Nat → Nat) (p : Nat) : (isOfG st p 0 || isOfG st p 1) = decide (st p ≠ 0) := by
  unfold isOfG
  have : st p % 2 = 0 ∨ st p % 2 = 1 := by omega
  by_cases z : st p = 0
  · simp [z]
  · have z1 : 0 < st p := by omega
    rcases this with h | h <;> simp [h, z1, z]
theorem mb_allL (st : Nat → Nat) {p : Nat} (hp : p < 64) : mb (allL st) p = (decide (p < 36) && decide (st p ≠ 0)) := by
  unfold allL
  rw [mb_or, mb_stL st 0 hp, mb_stL st 1 hp, ← isOf_or]
  cases decide (p < 36) <;> simp
section
variable {Q : Option Value → xw → Prop} {w : xw} {B : Bd} {s : GS} {a b : Nat}
theorem x_all (hP : XP a w) (hG : XG B s a w) (q : Q (some (.long (allL (gS s)))) w) : V_X5_all [.ref a] w Q := by
  have e0 := hG.2.2.2.1 0 (by omega)
  have e1 := hG.2.2.2.1 1 (by omega)
  refine e_X5_all (r_X5_all_0 ?_)
  (try simp +decide (disch := omega) only [n_lit2, n_add, n_mul, n_tn, n_inT, n_ltT, n_ltF, n_leT, n_leF, n_eqT, n_eqF, n_eqm, n_meq, n_div, n_rem, nb_0, nb_1, nr_b, true_and, and_true, eq_self, Decidable.not_not, not_false_eq_true, not_true_eq_false, false_implies, true_implies, implies_true, Option.toList_some, Option.toList_none, List.cons_append, List.nil_append, xS_uI, xS_uL, xR_uI, xR_uL, xL_uI, xI_uL, xN_uI, xN_uL, xB_uI, xB_uL, add_nz, ge_256, and_self, XP_s hP, XP_r2 hP, XP_r3 hP, XP_r7 hP, XP_r8 hP, XP_r9 hP, XP_r11 hP, XP_r12 hP, XP_r13 hP, XP_s1 hP, XP_s2 hP, XP_s3 hP, XP_s4 hP, XP_s5 hP, XP_s6 hP, XP_s7 hP, e0, e1]); (try simp (disch := omega) only [lc_eq, lc_le, lc_lt, lc_ge, lc_gt, mb_t1, mb_t0, bI_0, bI_1, n_in, n_lt, n_le, n_eq, Bool.not_eq_false, Bool.not_eq_true, Decidable.not_not, true_and, XP_s hP, XP_r2 hP, XP_r3 hP, XP_r7 hP, XP_r8 hP, XP_r9 hP, XP_r11 hP, XP_r12 hP, XP_r13 hP, XP_s1 hP, XP_s2 hP, XP_s3 hP, XP_s4 hP, XP_s5 hP, XP_s6 hP, XP_s7 hP, e0, e1])
  exact q
theorem x_has (hP : XP a w) (hG : XG B s a w) {p : Nat} (hp : p < 36) (q : Q (some (.int (bI (decide (gS s p ≠ 0))))) w) : V_X5_has [.ref a, .int (nI p)] w Q := by
  have e := mb_allL (gS s) (p := p) (by omega)
  rw [decide_eq_true hp, Bool.true_and] at e
  refine e_X5_has (r_X5_has_0 ⟨XP_s hP, x_all hP hG (r_X5_has_4 ?_)⟩)
  (try simp +decide (disch := omega) only [n_lit2, n_add, n_mul, n_tn, n_inT, n_ltT, n_ltF, n_leT, n_leF, n_eqT, n_eqF, n_eqm, n_meq, n_div, n_rem, nb_0, nb_1, nr_b, true_and, and_true, eq_self, Decidable.not_not, not_false_eq_true, not_true_eq_false, false_implies, true_implies, implies_true, Option.toList_some, Option.toList_none, List.cons_append, List.nil_append, xS_uI, xS_uL, xR_uI, xR_uL, xL_uI, xI_uL, xN_uI, xN_uL, xB_uI, xB_uL, add_nz, ge_256, and_self, e]); (try simp (disch := omega) only [lc_eq, lc_le, lc_lt, lc_ge, lc_gt, mb_t1, mb_t0, bI_0, bI_1, n_in, n_lt, n_le, n_eq, Bool.not_eq_false, Bool.not_eq_true, Decidable.not_not, true_and, e])
  refine ⟨fun c => ?_, fun c => ?_⟩
  · rw [c] at q; exact q
  · rw [c] at q; exact q
theorem x_side (hP : XP a w) (hG : XG B s a w) (hd : gD s ≤ 300) (q : Q (some (.int (nI (gD s % 2)))) w) : V_X5_side [.ref a] w Q := by
  have e := hG.1
  refine e_X5_side (r_X5_side_0 ?_)
  (try simp +decide (disch := omega) only [n_lit2, n_add, n_mul, n_tn, n_inT, n_ltT, n_ltF, n_leT, n_leF, n_eqT, n_eqF, n_eqm, n_meq, n_div, n_rem, nb_0, nb_1, nr_b, true_and, and_true, eq_self, Decidable.not_not, not_false_eq_true, not_true_eq_false, false_implies, true_implies, implies_true, Option.toList_some, Option.toList_none, List.cons_append, List.nil_append, xS_uI, xS_uL, xR_uI, xR_uL, xL_uI, xI_uL, xN_uI, xN_uL, xB_uI, xB_uL, add_nz, ge_256, and_self, XP_s hP, e]); (try simp (disch := omega) only [lc_eq, lc_le, lc_lt, lc_ge, lc_gt, mb_t1, mb_t0, bI_0, bI_1, n_in, n_lt, n_le, n_eq, Bool.not_eq_false, Bool.not_eq_true, Decidable.not_not, true_and, XP_s hP, e])
  exact q
/-- whose: a stone's, a place's -/
theorem x_sideOf {l : Nat} {f : Nat → Bool} {g : Nat → Bool} {p : Nat} (hs : xS w l = (52, 2)) (hp : p < 64) (e0 : mb (xL w l 0) p = f p) (e1 : mb (xL w l 1) p = g p) (q : Q (some (.int (if f p = true then nI 0 else if g p = true then nI 1 else -nI 1))) w) : V_X0_sideOf [.ref l, .int (nI p)] w Q := by
  refine e_X0_sideOf (r_X0_sideOf_0 ?_)
  (try simp +decide (disch := omega) only [n_lit2, n_add, n_mul, n_tn, n_inT, n_ltT, n_ltF, n_leT, n_leF, n_eqT, n_eqF, n_eqm, n_meq, n_div, n_rem, nb_0, nb_1, nr_b, true_and, and_true, eq_self, Decidable.not_not, not_false_eq_true, not_true_eq_false, false_implies, true_implies, implies_true, Option.toList_some, Option.toList_none, List.cons_append, List.nil_append, xS_uI, xS_uL, xR_uI, xR_uL, xL_uI, xI_uL, xN_uI, xN_uL, xB_uI, xB_uL, add_nz, ge_256, and_self, hs, e0, e1]); (try simp (disch := omega) only [lc_eq, lc_le, lc_lt, lc_ge, lc_gt, mb_t1, mb_t0, bI_0, bI_1, n_in, n_lt, n_le, n_eq, Bool.not_eq_false, Bool.not_eq_true, Decidable.not_not, true_and, hs, e0, e1])
  refine ⟨fun c => ⟨fun c2 => ?_, fun c2 => ?_⟩, fun c => ?_⟩
  · rw [c, c2] at q; exact q
  · rw [c, c2] at q; exact q
  · rw [c] at q; exact q
theorem x_owedPlaces (hP : XP a w) (hG : XG B s a w) (h16 : (gO s).length ≤ 16) (q : Q (some (.long (owedAll s))) w) : V_X5_owedPlaces [.ref a] w Q := by
  have r := hG.2.1
  refine e_X5_owedPlaces (r_X5_owedPlaces_0 ?_)
  refine upTo (gO s).length (fun _ (_ : Unit) => True)
    (fun k _ => ∀ {o2 : Option Value}, T_X5_owedPlaces Q 4 [some (.ref a), some (.long (orL (gO s) k)), o2, some (.int (nI k))] [] w) ?_ ?_ 0 () (by omega) trivial
  · intro _ _ o2
    refine r_X5_owedPlaces_4 ?_
    (try simp +decide (disch := omega) only [n_lit2, n_add, n_mul, n_tn, n_inT, n_ltT, n_ltF, n_leT, n_leF, n_eqT, n_eqF, n_eqm, n_meq, n_div, n_rem, nb_0, nb_1, nr_b, true_and, and_true, eq_self, Decidable.not_not, not_false_eq_true, not_true_eq_false, false_implies, true_implies, implies_true, Option.toList_some, Option.toList_none, List.cons_append, List.nil_append, xS_uI, xS_uL, xR_uI, xR_uL, xL_uI, xI_uL, xN_uI, xN_uL, xB_uI, xB_uL, add_nz, ge_256, and_self, XP_s hP, r]); (try simp (disch := omega) only [lc_eq, lc_le, lc_lt, lc_ge, lc_gt, mb_t1, mb_t0, bI_0, bI_1, n_in, n_lt, n_le, n_eq, Bool.not_eq_false, Bool.not_eq_true, Decidable.not_not, true_and, XP_s hP, r])
    exact q
  · intro k _ hk _ next o2
    have r2 := lsL_get hG.2.2.1 hk
    refine r_X5_owedPlaces_4 ?_
    (try simp +decide (disch := omega) only [n_lit2, n_add, n_mul, n_tn, n_inT, n_ltT, n_ltF, n_leT, n_leF, n_eqT, n_eqF, n_eqm, n_meq, n_div, n_rem, nb_0, nb_1, nr_b, true_and, and_true, eq_self, Decidable.not_not, not_false_eq_true, not_true_eq_false, false_implies, true_implies, implies_true, Option.toList_some, Option.toList_none, List.cons_append, List.nil_append, xS_uI, xS_uL, xR_uI, xR_uL, xL_uI, xI_uL, xN_uI, xN_uL, xB_uI, xB_uL, add_nz, ge_256, and_self, XP_s hP, XP_r2 hP, XP_r3 hP, XP_r7 hP, XP_r8 hP, XP_r9 hP, XP_r11 hP, XP_r12 hP, XP_r13 hP, XP_s1 hP, XP_s2 hP, XP_s3 hP, XP_s4 hP, XP_s5 hP, XP_s6 hP, XP_s7 hP, r, r2]); (try simp (disch := omega) only [lc_eq, lc_le, lc_lt, lc_ge, lc_gt, mb_t1, mb_t0, bI_0, bI_1, n_in, n_lt, n_le, n_eq, Bool.not_eq_false, Bool.not_eq_true, Decidable.not_not, true_and, XP_s hP, XP_r2 hP, XP_r3 hP, XP_r7 hP, XP_r8 hP, XP_r9 hP, XP_r11 hP, XP_r12 hP, XP_r13 hP, XP_s1 hP, XP_s2 hP, XP_s3 hP, XP_s4 hP, XP_s5 hP, XP_s6 hP, XP_s7 hP, r, r2])
    exact next () trivial
end
