/-! X: the Reader's bytes, signs and faults -/
section
variable {Q : Option Value → xw → Prop} {Qx : Nat → xw → Prop} {w : xw} {T : List Nat} {a : Nat}
/-- the Reader at 341, its Fault at 342, the tape at 340 -/
def XRt (T : List Nat) (w : xw) : Prop := ((xS w 341).1 = 3 ∧ (xS w 342).1 = 4 ∧ (xS w 256).1 = 1 ∧ xS w 340 = (54, 1600)) ∧ (xR w 341 0 = 342 ∧ xR w 341 6 = 256 ∧ xR w 256 1 = 340) ∧ xI w 341 1 = nI T.length ∧ (∀ k, k < T.length → xI w 340 k = sx (T.getD k 0)) ∧ tpOk T ∧ 794 ≤ xN w
def XRd (T : List Nat) (a : Nat) (w : xw) : Prop := XRt T w ∧ xI w 341 2 = nI a ∧ a ≤ T.length
/-- what reading alters: where the Reader stands, from where, how many are open; the Fault -/
def fR (w w' : xw) : Prop := (xN w' = xN w ∧ xS w' = xS w) ∧ (xL w' = xL w ∧ xR w' = xR w) ∧ ∀ i j, ¬ (i = 341 ∧ (j = 2 ∨ j = 3)) → ¬ (i = 342 ∧ (j = 6 ∨ j = 7)) → xI w' i j = xI w i j
theorem fR_refl (w : xw) : fR w w := ⟨⟨rfl, rfl⟩, ⟨rfl, rfl⟩, fun _ _ _ _ => rfl⟩
theorem fR_trans {w1 w2 : xw} (h : fR w w1) (g : fR w1 w2) : fR w w2 := ⟨⟨g.1.1.trans h.1.1, g.1.2.trans h.1.2⟩, ⟨g.2.1.1.trans h.2.1.1, g.2.1.2.trans h.2.1.2⟩, fun i j a b => (g.2.2 i j a b).trans (h.2.2 i j a b)⟩
theorem fR_u2 {w1 : xw} (h : fR w w1) (j : Nat) (hj : j = 2 ∨ j = 3) (v : Int32) : fR w (xUpI w1 341 j v) := ⟨h.1, h.2.1, fun i k a b => by rw [x_uI, if_neg (by omega)]; exact h.2.2 i k a b⟩
theorem fR_B {w1 : xw} (h : fR w w1) (b : Nat × Nat) : fR w (xSetB w1 b) := h
theorem XRt_f {w' : xw} (h : XRt T w) (f : fR w w') : XRt T w' := by
  obtain ⟨⟨a1, a2, a3, a4⟩, ⟨b1, b2, b3⟩, c1, c2, c3, c4⟩ := h
  obtain ⟨⟨f1, f2⟩, ⟨f3, f4⟩, f5⟩ := f
  exact ⟨⟨by rw [f2]; exact a1, by rw [f2]; exact a2, by rw [f2]; exact a3, by rw [f2]; exact a4⟩, ⟨by rw [f4]; exact b1, by rw [f4]; exact b2, by rw [f4]; exact b3⟩, by rw [f5 _ _ (by omega) (by omega)]; exact c1, fun k hk => by rw [f5 _ _ (by omega) (by omega)]; exact c2 k hk, c3, by omega⟩
theorem x_isLetter {n : Nat} (hn : n < 2147483648) (q : Q (some (.int (bI (isLe n)))) w) : V_X0_isLetter [.int (nI n)] w Q := by
  refine e_X0_isLetter (r_X0_isLetter_0 ?_)
  rw [show (nI n < (97 : Int32)) ↔ n < 97 from n_lt (b := 97) hn (by omega), show ((122 : Int32) < nI n) ↔ 122 < n from n_lt (a := 122) (by omega) hn]
  unfold isLe at q
  refine ⟨fun c => ⟨nr_0, ?_⟩, fun c => ⟨fun c2 => ⟨nr_0, ?_⟩, fun c2 => ⟨nr_1, ?_⟩⟩⟩
  · rw [decide_eq_false (by omega)] at q; exact q
  · rw [decide_eq_false (show ¬ n ≤ 122 by omega), Bool.and_false] at q; exact q
  · rw [decide_eq_true (by omega), decide_eq_true (by omega)] at q; exact q
theorem x_isLetterN (q : Q (some (.int (nI 0))) w) : V_X0_isLetter [.int (-nI 1)] w Q :=
  e_X0_isLetter (r_X0_isLetter_0 ⟨fun _ => ⟨nr_0, q⟩, fun z => absurd (by decide) z⟩)
theorem x_isDigit {n : Nat} (hn : n < 2147483648) (q : Q (some (.int (bI (isDi n)))) w) : V_X0_isDigit [.int (nI n)] w Q := by
  refine e_X0_isDigit (r_X0_isDigit_0 ?_)
  rw [show (nI n < (48 : Int32)) ↔ n < 48 from n_lt (b := 48) hn (by omega), show ((57 : Int32) < nI n) ↔ 57 < n from n_lt (a := 57) (by omega) hn]
  unfold isDi at q
  refine ⟨fun c => ⟨nr_0, ?_⟩, fun c => ⟨fun c2 => ⟨nr_0, ?_⟩, fun c2 => ⟨nr_1, ?_⟩⟩⟩
  · rw [decide_eq_false (by omega)] at q; exact q
  · rw [decide_eq_false (show ¬ n ≤ 57 by omega), Bool.and_false] at q; exact q
  · rw [decide_eq_true (by omega), decide_eq_true (by omega)] at q; exact q
theorem x_isDigitN (q : Q (some (.int (nI 0))) w) : V_X0_isDigit [.int (-nI 1)] w Q :=
  e_X0_isDigit (r_X0_isDigit_0 ⟨fun _ => ⟨nr_0, q⟩, fun z => absurd (by decide) z⟩)
/-- is such a byte there -/
def leB (T : List Nat) (k : Nat) : Bool := decide (k < T.length) && isLe (T.getD k 0)
def diB (T : List Nat) (k : Nat) : Bool := decide (k < T.length) && isDi (T.getD k 0)
theorem x_leC (hT : tpOk T) {k : Nat} (q : Q (some (.int (bI (leB T k)))) w) : V_X0_isLetter [.int (ch T k)] w Q := by
  unfold ch
  unfold leB at q
  by_cases c : k < T.length
  · rw [if_pos c]
    rw [decide_eq_true c, Bool.true_and] at q
    have := hT.2 _ (getD_mem c)
    exact x_isLetter (by omega) q
  · rw [if_neg c]
    rw [decide_eq_false c, Bool.false_and] at q
    exact x_isLetterN q
theorem x_diC (hT : tpOk T) {k : Nat} (q : Q (some (.int (bI (diB T k)))) w) : V_X0_isDigit [.int (ch T k)] w Q := by
  unfold ch
  unfold diB at q
  by_cases c : k < T.length
  · rw [if_pos c]
    rw [decide_eq_true c, Bool.true_and] at q
    have := hT.2 _ (getD_mem c)
    exact x_isDigit (by omega) q
  · rw [if_neg c]
    rw [decide_eq_false c, Bool.false_and] at q
    exact x_isDigitN q
theorem x_byteAt (h : XRt T w) {k : Nat} (hk : k < 2147483648) (q : Q (some (.int (ch T k))) w) : V_X2_byteAt [.ref 341, .int (nI k)] w Q := by
  obtain ⟨⟨a1, a2, a3, a4⟩, ⟨b1, b2, b3⟩, c1, c2, c3, c4⟩ := h
  have l16 := c3.1
  unfold ch at q
  refine e_X2_byteAt (r_X2_byteAt_0 ?_)
  rw [c1, b2, b3, a4, show (nI k < (0 : Int32)) ↔ k < 0 from n_lt (b := 0) hk (by omega), n_le (by omega) hk, n_tn hk]
  refine ⟨fun z => by omega, fun _ => ⟨a1, fun c => ⟨trivial, ?_⟩, fun c => ⟨a1, by omega, a3, by omega, rfl, (n_in hk).mpr (by dsimp only; omega), trivial, ?_⟩⟩⟩
  · rw [if_neg (by omega)] at q; exact q
  · rw [if_pos (by omega)] at q
    have := c3.2 _ (getD_mem (show k < T.length by omega))
    rw [c2 k (by omega), sx_and this]; exact q
theorem x_byteN (q : Q (some (.int (-nI 1))) w) : V_X2_byteAt [.ref 341, .int (-nI 1)] w Q :=
  e_X2_byteAt (r_X2_byteAt_0 ⟨fun _ => ⟨trivial, q⟩, fun z => absurd (by decide) z⟩)
theorem x_here {w0 : xw} : ∀ (a : Nat) (w : xw), XRd T a w → fR w0 w → xB w = xB w0 → (∀ w', fR w0 w' → xB w' = xB w0 → XRd T (sk T a) w' → (∀ j, j ≠ 2 → xI w' 341 j = xI w 341 j) → Q (some (.int (ch T (sk T a)))) w') → V_X2_here [.ref 341] w Q := by
  intro a
  refine spL_ind (T := T) (f := isBl) (fun a => ∀ (w : xw), XRd T a w → fR w0 w → xB w = xB w0 → (∀ w', fR w0 w' → xB w' = xB w0 → XRd T (sk T a) w' → (∀ j, j ≠ 2 → xI w' 341 j = xI w 341 j) → Q (some (.int (ch T (sk T a)))) w') → V_X2_here [.ref 341] w Q) (fun k h w hM f hB q => ?_) (fun k h1 h2 ih w hM f hB q => ?_) a
  · have es : sk T k = k := spL_no h
    rw [es] at q
    have q := q w f hB hM (fun _ _ => rfl)
    obtain ⟨m1, m2, m3⟩ := id hM
    have l16 := m1.2.2.2.2.1.1
    have nb : ch T k ≠ 32 ∧ ch T k ≠ 10 := by
      unfold ch
      by_cases c : k < T.length
      · rw [if_pos c]
        have hb := h c
        have b256 := m1.2.2.2.2.1.2 _ (getD_mem c)
        unfold isBl at hb
        rw [Bool.or_eq_false_iff, decide_eq_false_iff_not, decide_eq_false_iff_not] at hb
        exact ⟨fun z => hb.2 ((n_eq (b := 32) (by omega) (by omega)).mp z), fun z => hb.1 ((n_eq (b := 10) (by omega) (by omega)).mp z)⟩
      · rw [if_neg c]; exact ⟨by decide, by decide⟩
    refine e_X2_here (r_X2_here_0 ⟨m1.1.1, m1.1.1, ?_⟩)
    rw [m2]
    refine x_byteAt m1 (by omega) (r_X2_here_8 ⟨fun z => absurd z nb.1, fun _ => ⟨m1.1.1, m1.1.1, ?_⟩⟩)
    rw [m2]
    refine x_byteAt m1 (by omega) (r_X2_here_21 ⟨fun _ => ⟨m1.1.1, m1.1.1, ?_⟩, fun z => absurd nb.2 z⟩)
    rw [m2]
    exact x_byteAt m1 (by omega) (r_X2_here_47 ⟨trivial, q⟩)
  · have es : sk T k = sk T (k + 1) := spL_go h1 h2
    rw [es] at q
    obtain ⟨m1, m2, m3⟩ := id hM
    have l16 := m1.2.2.2.2.1.1
    have ek : nI k + 1 = nI (k + 1) := n_add k 1
    have fu : fR w (xUpI w 341 2 (nI (k + 1))) := fR_u2 (fR_refl w) 2 (Or.inl rfl) _
    have nx := ih (xUpI w 341 2 (nI (k + 1))) ⟨XRt_f m1 fu, by rw [x_uI, if_pos ⟨rfl, rfl⟩], by omega⟩ (fR_trans f fu) hB (fun w' f' b' r' j' => q w' f' b' r' (fun j hj => by rw [j' j hj, x_uI, if_neg (by omega)]))
    have nx : T_X2_here Q 0 [some (.ref 341)] [] (xUpI w 341 2 (nI (k + 1))) := nx
    have b256 := m1.2.2.2.2.1.2 _ (getD_mem h1)
    unfold isBl at h2
    rw [Bool.or_eq_true, decide_eq_true_eq, decide_eq_true_eq] at h2
    have ec : ch T k = nI (T.getD k 0) := if_pos h1
    refine e_X2_here (r_X2_here_0 ⟨m1.1.1, m1.1.1, ?_⟩)
    rw [m2]
    refine x_byteAt m1 (by omega) (r_X2_here_8 ?_)
    rw [ec, m2, ek, show (nI (T.getD k 0) = (32 : Int32)) ↔ T.getD k 0 = 32 from n_eq (b := 32) (by omega) (by omega)]
    refine ⟨fun _ => ⟨m1.1.1, m1.1.1, by omega, nx⟩, fun z => ⟨m1.1.1, m1.1.1, x_byteAt m1 (by omega) (r_X2_here_21 ?_)⟩⟩
    rw [ec, m2, ek, show (nI (T.getD k 0) = (10 : Int32)) ↔ T.getD k 0 = 10 from n_eq (b := 10) (by omega) (by omega)]
    exact ⟨fun z2 => by omega, fun _ => ⟨m1.1.1, m1.1.1, by omega, nx⟩⟩
/-- the Fault that is thrown -/
def XBad (kd pl : Nat) (w : xw) : Prop := xI w 342 6 = nI kd ∧ xI w 342 7 = nI pl
theorem x_wrong (h : XRt T w) {kd pl : Nat} {x y : Int32} (hx : x = nI kd) (hy : y = nI pl) (q : ∀ w', fR w w' → xB w' = xB w → XBad kd pl w' → (xS w' 342).1 = 4 → xI w' 341 = xI w 341 → Q (some (.ref 342)) w') : V_X2_wrong [.ref 341, .int x, .int y] w Q := by
  obtain ⟨⟨a1, a2, a3, a4⟩, ⟨b1, b2, b3⟩, c1, c2, c3, c4⟩ := h
  subst hx hy
  refine e_X2_wrong (r_X2_wrong_0 ?_)
  have r1 : xR (xUpI w 342 6 (nI kd)) 341 0 = 342 := b1
  have r2 : xR (xUpI (xUpI w 342 6 (nI kd)) 342 7 (nI pl)) 341 0 = 342 := b1
  rw [b1, r1, r2]
  refine ⟨a1, by omega, a2, by omega, a1, by omega, a2, by omega, a1, by omega, ⟨_, rfl, rfl⟩, q _ ⟨⟨rfl, rfl⟩, ⟨rfl, rfl⟩, fun i j h1 h2 => ?_⟩ rfl ⟨?_, ?_⟩ a2 ?_⟩
  · rw [x_uI, if_neg (by omega), x_uI, if_neg (by omega)]
  · rw [x_uI, if_neg (by omega), x_uI, if_pos ⟨rfl, rfl⟩]
  · rw [x_uI, if_pos ⟨rfl, rfl⟩]
  · funext j; rw [x_uI, if_neg (by omega), x_uI, if_neg (by omega)]
theorem x_must {c : Nat} {x : Int32} (h : XRd T a w) (hx : x = nI c) (hc : c < 256)
    (q0 : chB T (sk T a) c = false → ∀ w', fR w w' → XBad 1 (sk T a) w' → (xS w' 342).1 = 4 → Qx 342 w') (q1 : chB T (sk T a) c = true → ∀ w', fR w w' → XRd T (sk T a + 1) w' → (∀ j, j ≠ 2 → xI w' 341 j = xI w 341 j) → Q none w') : V_X2_must [.ref 341, .int x] w Q Qx := by
  have hT := h.1.2.2.2.2.1
  have l16 := hT.1
  subst hx
  refine e_X2_must (r_X2_must_0 ⟨h.1.1.1, x_here (w0 := w) a w h (fR_refl w) rfl (fun w1 f1 b1 r1 j1 => r_X2_must_4 ?_)⟩)
  have hs := sk_is T h.2.2
  rw [ch_B hT hc, r1.2.1]
  refine ⟨fun z => ⟨r1.1.1.1, r1.1.1.1, by omega, rfl, ?_⟩, fun z => ⟨r1.1.1.1, r1.1.1.1, x_wrong r1.1 rfl rfl (fun w2 f2 b2 e2 s2 _ => r_X2_must_17 ⟨s2, ?_⟩)⟩⟩
  · rw [show nI (sk T a) + 1 = nI (sk T a + 1) from n_add _ 1]
    have fu : fR w1 (xUpI w1 341 2 (nI (sk T a + 1))) := fR_u2 (fR_refl w1) 2 (Or.inl rfl) _
    exact q1 z _ (fR_trans f1 fu) ⟨XRt_f r1.1 fu, by rw [x_uI, if_pos ⟨rfl, rfl⟩], by have := chB_lt z; omega⟩ (fun j hj => by rw [x_uI, if_neg (by omega)]; exact j1 j hj)
  · exact q0 (by simpa using z) w2 (fR_trans f1 f2) e2 s2
theorem x_takes {c : Nat} {x : Int32} (h : XRd T a w) (hx : x = nI c) (hc : c < 256)
    (q0 : chB T (sk T a) c = false → ∀ w', fR w w' → xB w' = xB w → XRd T (sk T a) w' → (∀ j, j ≠ 2 → xI w' 341 j = xI w 341 j) → Q (some (.int (nI 0))) w') (q1 : chB T (sk T a) c = true → ∀ w', fR w w' → xB w' = xB w → XRd T (sk T a + 1) w' → (∀ j, j ≠ 2 → xI w' 341 j = xI w 341 j) → Q (some (.int (nI 1))) w') : V_X2_takes [.ref 341, .int x] w Q := by
  have hT := h.1.2.2.2.2.1
  have l16 := hT.1
  subst hx
  refine e_X2_takes (r_X2_takes_0 ⟨h.1.1.1, x_here (w0 := w) a w h (fR_refl w) rfl (fun w1 f1 b1 r1 j1 => r_X2_takes_4 ?_)⟩)
  have hs := sk_is T h.2.2
  rw [ch_B hT hc, r1.2.1]
  refine ⟨fun z => ⟨r1.1.1.1, fun _ => ⟨r1.1.1.1, by omega, nr_0, ?_⟩, fun y => absurd rfl y⟩, fun z => ⟨r1.1.1.1, fun y => absurd y (by decide), fun _ => ⟨r1.1.1.1, by omega, nr_1, ?_⟩⟩⟩
  · have fu : fR w1 (xUpI w1 341 2 (nI (sk T a))) := fR_u2 (fR_refl w1) 2 (Or.inl rfl) _
    rw [show nI (sk T a) + 0 = nI (sk T a) from n_add _ 0]
    exact q0 (by simpa using z) _ (fR_trans f1 fu) b1 ⟨XRt_f r1.1 fu, by rw [x_uI, if_pos ⟨rfl, rfl⟩], r1.2.2⟩ (fun j hj => by rw [x_uI, if_neg (by omega)]; exact j1 j hj)
  · have z := Decidable.not_not.mp z
    have fu : fR w1 (xUpI w1 341 2 (nI (sk T a + 1))) := fR_u2 (fR_refl w1) 2 (Or.inl rfl) _
    rw [show nI (sk T a) + 1 = nI (sk T a + 1) from n_add _ 1]
    exact q1 z _ (fR_trans f1 fu) b1 ⟨XRt_f r1.1 fu, by rw [x_uI, if_pos ⟨rfl, rfl⟩], by have := chB_lt z; omega⟩ (fun j hj => by rw [x_uI, if_neg (by omega)]; exact j1 j hj)
/-- no letter and no digit stands ahead -/
theorem x_parted (h : XRd T a w) (q0 : prt T a = true → ∀ w', fR w w' → XBad 1 a w' → (xS w' 342).1 = 4 → Qx 342 w') (q1 : prt T a = false → Q none w) : V_X2_parted [.ref 341] w Q Qx := by
  obtain ⟨m1, m2, m3⟩ := id h
  have hT := m1.2.2.2.2.1
  have l16 := hT.1
  have bad : prt T a = true → V_X2_wrong [.ref 341, .int 1, .int (xI w 341 2)] w (fun v w1 => T_X2_parted Qx Q 41 [some (.ref 341)] (v.toList ++ []) w1) := fun hp => by
    rw [m2]
    exact x_wrong m1 (kd := 1) rfl rfl (fun w2 f2 b2 e2 s2 _ => r_X2_parted_41 ⟨s2, q0 hp w2 f2 e2 s2⟩)
  refine e_X2_parted (r_X2_parted_0 ⟨m1.1.1, m1.1.1, ?_⟩)
  by_cases ca : a = 0
  · have e1 : xI w 341 2 - 1 = -nI 1 := by rw [m2, ca]; decide
    have hp : prt T a = false := by unfold prt; rw [decide_eq_false (by omega)]; rfl
    rw [e1]
    refine x_byteN (r_X2_parted_10 (x_isLetterN (r_X2_parted_13 ⟨fun z => absurd rfl z, fun _ => ⟨m1.1.1, m1.1.1, ?_⟩⟩)))
    rw [e1]
    exact x_byteN (r_X2_parted_26 (x_isDigitN (r_X2_parted_29 ⟨fun _ => ⟨rfl, q1 hp⟩, fun z => absurd rfl z⟩)))
  · have e1 : xI w 341 2 - 1 = nI (a - 1) := by rw [m2]; exact n_sub (a := a) (b := 1) (by omega)
    have pe : prt T a = (leB T (a - 1) || diB T (a - 1)) := by
      unfold prt leB diB
      rw [decide_eq_true (show 0 < a by omega), decide_eq_true (show a - 1 < T.length by omega)]; simp
    rw [e1]
    refine x_byteAt m1 (by omega) (r_X2_parted_10 (x_leC hT (r_X2_parted_13 ⟨fun z => ⟨m1.1.1, m1.1.1, bad ?_⟩, fun z => ⟨m1.1.1, m1.1.1, ?_⟩⟩)))
    · rw [pe, bI_n0 z]; rfl
    have z := bI_nn0 z
    rw [e1]
    refine x_byteAt m1 (by omega) (r_X2_parted_26 (x_diC hT (r_X2_parted_29 ⟨fun y => ⟨rfl, q1 ?_⟩, fun y => ⟨m1.1.1, m1.1.1, bad ?_⟩⟩)))
    · rw [pe, z, bI_e0 y]; rfl
    · rw [pe, z, bI_n0 y]; rfl
end
