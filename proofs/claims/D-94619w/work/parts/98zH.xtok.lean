/-! X: the Reader's words, names, numbers -/
section
variable {Q : Option Value → xw → Prop} {Qx : Nat → xw → Prop} {w : xw} {T : List Nat} {a : Nat}
/-- the String constants and the rows of them -/
def XC (w : xw) : Prop := (∀ k, 10 ≤ k → k < 32 → XStr (wT k) k w ∧ xR w k 0 < 256) ∧ (xS w 1 = (57, 3) ∧ ∀ k, k < 3 → xR w 1 k = 27 + k) ∧ (xS w 2 = (57, 2) ∧ ∀ k, k < 2 → xR w 2 k = 17 + k) ∧ (xS w 3 = (57, 3) ∧ ∀ k, k < 3 → xR w 3 k = 13 + k) ∧ (xS w 4 = (57, 22) ∧ ∀ k, k < 22 → xR w 4 k = 10 + k)
theorem XC_q {w' : xw} (h : XC w) (f : xq w w') (hn : 794 ≤ xN w) : XC w' := by
  obtain ⟨h0, h1, h2, h3, h4⟩ := h
  have s := fun i (hi : i < 256) => f.2.1 i (by omega)
  refine ⟨fun k a b => ⟨XStr_q (h0 k a b).1 f (by omega) (by have := (h0 k a b).2; omega), by rw [(s k (by omega)).2.2]; exact (h0 k a b).2⟩, ⟨?_, ?_⟩, ⟨?_, ?_⟩, ⟨?_, ?_⟩, ⟨?_, ?_⟩⟩
  · rw [(s 1 (by omega)).1]; exact h1.1
  · rw [(s 1 (by omega)).2.2]; exact h1.2
  · rw [(s 2 (by omega)).1]; exact h2.1
  · rw [(s 2 (by omega)).2.2]; exact h2.2
  · rw [(s 3 (by omega)).1]; exact h3.1
  · rw [(s 3 (by omega)).2.2]; exact h3.2
  · rw [(s 4 (by omega)).1]; exact h4.1
  · rw [(s 4 (by omega)).2.2]; exact h4.2
def XZ (T : List Nat) (a : Nat) (w : xw) : Prop := XRd T a w ∧ XC w
theorem XZ_n (h : XZ T a w) : 794 ≤ xN w := h.1.1.2.2.2.2.2
/-- no more cells and slots than these were taken -/
def XBd (c s : Nat) (w w' : xw) : Prop := (xB w).1 ≤ (xB w').1 + c ∧ (xB w).2 ≤ (xB w').2 + s
theorem XBd_z {w' : xw} (h : xB w' = xB w) : XBd 0 0 w w' := by unfold XBd; rw [h]; exact ⟨Nat.le_refl _, Nat.le_refl _⟩
theorem wB_eq {b : Nat} {W : List Nat} : wEq T b W = decide (wB T b = W) := by
  have hl := wB_len (T := T) b
  cases h : wEq T b W with
  | true =>
    unfold wEq at h
    rw [Bool.and_eq_true, decide_eq_true_eq, List.all_eq_true] at h
    symm
    rw [decide_eq_true_eq]
    refine l_ext (by omega) (fun j hj => ?_)
    rw [wB_get b j (by omega)]
    have := h.2 j (List.mem_range.mpr (by omega))
    rw [decide_eq_true_eq] at this; exact this
  | false =>
    symm
    rw [decide_eq_false_iff_not]
    intro e
    have : wEq T b W = true := by
      unfold wEq
      rw [Bool.and_eq_true, decide_eq_true_eq, List.all_eq_true]
      refine ⟨by rw [← hl, e], fun j hj => ?_⟩
      have hj := List.mem_range.mp hj
      rw [decide_eq_true_eq, ← e, wB_get b j (by rw [← hl, e]; exact hj)]
    rw [this] at h; cases h
theorem xS342 {w' : xw} (h : XRt T w) (f : xq w w') : (xS w' 342).1 = 4 := by
  rw [(f.2.1 342 (by have := h.2.2.2.2.2; omega)).1]; exact h.1.2.1
theorem x_wordS {k : Nat} (h : XZ T a w) (h1 : 10 ≤ k) (h2 : k < 32) (hb : 3 ≤ (xB w).1 ∧ 2 * (wl T (sk T a) - sk T a) + 10 ≤ (xB w).2)
    (qe : hereB T a (wT k) = false → ∀ w', xq w w' → XBad 1 (sk T a) w' → (xS w' 342).1 = 4 → Qx 342 w')
    (qo : hereB T a (wT k) = true → ∀ w', xq w w' → XZ T (wl T (sk T a)) w' → xI w' 341 3 = nI (sk T a) → xI w' 341 4 = xI w 341 4 → XBd 3 (2 * (wl T (sk T a) - sk T a) + 10) w w' → Q none w') : V_X2_word [.ref 341, .ref k] w Q Qx := by
  have hN := XZ_n h
  have hh : hereB T a (wT k) = (isWd T (sk T a) && decide (wB T (sk T a) = wT k)) := by unfold hereB; rw [wB_eq]
  refine e_X2_word (r_X2_word_0 ⟨h.1.1.1.1, 3, 2 * (wl T (sk T a) - sk T a) + 10, hb, x_word (w := xSetB w _) h.1 ⟨Nat.le_refl _, Nat.le_refl _⟩ (fun hi w1 f1 e1 s1 => qe (by rw [hh, hi]; rfl) _ (xq_f (w1 := w1) f1) e1 s1) (fun hi w1 f1 n1 r1 fr1 op1 S1 _ => r_X2_word_4 ⟨S1.1.1, ?_⟩)⟩)
  have f1 : xq w w1 := f1
  have c1 := XC_q h.2 f1 hN
  have S1 : XStr (wB T (sk T a)) (xN w + 1) w1 := S1
  refine x_eq (w := xSetB w1 _) S1 ((c1.1 k h1 h2).1) (Or.inl (by show 256 ≤ xN w + 1; omega)) (r_X2_word_8 ⟨fun z => ⟨rfl, qo ?_ _ f1 ⟨r1, c1⟩ fr1 op1 ?_⟩, fun z => ⟨r1.1.1.1, r1.1.1.1, ?_⟩⟩)
  · rw [hh, hi, bI_n0 z]; rfl
  · show (xB w).1 ≤ (xB w).1 - 3 + 3 ∧ (xB w).2 ≤ (xB w).2 - (2 * (wl T (sk T a) - sk T a) + 10) + (2 * (wl T (sk T a) - sk T a) + 10)
    omega
  · refine x_wrong (T := T) (kd := 1) (pl := sk T a) (by exact r1.1) rfl (by exact fr1) (fun w2 f2 b2 e2 s2 _ => ?_)
    exact r_X2_word_20 ⟨s2, qe (by rw [hh, bI_nn0 z, Bool.and_false]) w2 (xq_trans f1 (xq_f (w := w1) f2)) e2 s2⟩
theorem x_passes {k : Nat} (h : XZ T a w) (h1 : 10 ≤ k) (h2 : k < 32) (hb : leB T (sk T a) = true → 3 ≤ (xB w).1 ∧ 2 * (wl T (sk T a) - sk T a) + 10 ≤ (xB w).2)
    (qe : leB T (sk T a) = true → prt T (sk T a) = true → ∀ w', xq w w' → XBad 1 (sk T a) w' → (xS w' 342).1 = 4 → Qx 342 w')
    (q0 : hereB T a (wT k) = false → (leB T (sk T a) = true → prt T (sk T a) = false) → ∀ w' p, xq w w' → a ≤ p → sk T p = sk T a → XZ T p w' → xI w' 341 4 = xI w 341 4 → XBd 3 (2 * (wl T (sk T a) - sk T a) + 10) w w' → (leB T (sk T a) = false → XBd 0 0 w w') → Q (some (.int (nI 0))) w')
    (q1 : hereB T a (wT k) = true → ∀ w', xq w w' → XZ T (wl T (sk T a)) w' → xI w' 341 3 = nI (sk T a) → xI w' 341 4 = xI w 341 4 → XBd 3 (2 * (wl T (sk T a) - sk T a) + 10) w w' → Q (some (.int (nI 1))) w') : V_X2_passes [.ref 341, .ref k] w Q Qx := by
  have hN := XZ_n h
  have hT := h.1.1.2.2.2.2.1
  have hs := sk_is T h.1.2.2
  have hss := sk_sk h.1.2.2
  have hh : hereB T a (wT k) = (isWd T (sk T a) && decide (wB T (sk T a) = wT k)) := by unfold hereB; rw [wB_eq]
  have iw : isWd T (sk T a) = (leB T (sk T a) && !prt T (sk T a)) := by unfold isWd leB; rfl
  refine e_X2_passes (r_X2_passes_0 ⟨h.1.1.1.1, h.1.1.1.1, x_here (w0 := w) a w h.1 (fR_refl w) rfl (fun w1 f1 b1 r1 j1 => r_X2_passes_9 (x_leC hT (r_X2_passes_12 ⟨fun z => ⟨r1.1.1.1, ?_⟩, fun z => ⟨nr_0, ?_⟩⟩)))⟩)
  rotate_left
  · have z := bI_nn0 z
    refine q0 ?_ (fun y => by rw [z] at y; cases y) w1 (sk T a) (xq_f f1) hs.1 hss ⟨r1, XC_q h.2 (xq_f f1) hN⟩ (j1 4 (by omega)) ?_ (fun _ => XBd_z b1)
    · rw [hh, iw, z]; rfl
    · have := XBd_z b1; unfold XBd at this ⊢; omega
  · have z := bI_n0 z
    have hb := hb z
    rw [← b1] at hb
    have ea : xI w 341 2 = nI a := h.1.2.1
    rw [ea]
    refine ⟨3, 2 * (wl T (sk T a) - sk T a) + 10, hb, x_word (w := xSetB w1 _) r1 ⟨Nat.le_refl _, by rw [hss]; exact Nat.le_refl _⟩ (fun hi w2 f2 e2 s2 => ?_) (fun hi w2 f2 n2 r2 fr2 op2 S2 _ => r_X2_passes_21 ⟨S2.1.1, ?_⟩)⟩
    · rw [hss] at hi e2
      rw [iw, z] at hi
      have hp : prt T (sk T a) = true := by cases hpp : prt T (sk T a) <;> rw [hpp] at hi <;> first | rfl | cases hi
      exact qe z hp _ (xq_trans (xq_f f1) (xq_f (w := w1) (w1 := w2) f2)) e2 s2
    · rw [hss] at hi r2 fr2 S2
      have q12 : xq w w2 := xq_trans (xq_f f1) (w1 := w1) f2
      have c2 := XC_q h.2 q12 hN
      have S2 : XStr (wB T (sk T a)) (xN w1 + 1) w2 := S2
      have hp : prt T (sk T a) = false := by
        rw [iw, z] at hi
        cases hpp : prt T (sk T a) <;> rw [hpp] at hi <;> first | rfl | cases hi
      have o2 : xI w2 341 4 = xI w 341 4 := op2.trans (j1 4 (by omega))
      refine x_eq (w := xSetB w2 _) S2 ((c2.1 k h1 h2).1) (Or.inl (by have : xN w1 = xN w := f1.1.1; show 256 ≤ xN w1 + 1; omega)) (r_X2_passes_25 ⟨fun y => ⟨r2.1.1.1, by omega, nr_0, q0 ?_ (fun _ => hp) _ a ?_ (Nat.le_refl _) rfl ⟨⟨XRt_q h.1.1 ?_, ?_, h.1.2.2⟩, ?_⟩ ?_ ?_ (fun y => by rw [z] at y; cases y)⟩, fun y => ⟨nr_1, q1 ?_ _ q12 ⟨r2, c2⟩ fr2 o2 ?_⟩⟩)
      · rw [hh, bI_e0 y, Bool.and_false]
      · exact xq_trans q12 (xq_f (w := w2) (w1 := xUpI w2 341 2 (nI a)) (fR_u2 (fR_refl w2) 2 (Or.inl rfl) _))
      · exact xq_trans q12 (xq_f (w := w2) (w1 := xUpI w2 341 2 (nI a)) (fR_u2 (fR_refl w2) 2 (Or.inl rfl) _))
      · show xI (xUpI w2 341 2 (nI a)) 341 2 = _
        rw [x_uI, if_pos ⟨rfl, rfl⟩]
      · exact XC_q (w := w2) (w' := xUpI w2 341 2 (nI a)) c2 (xq_f (fR_u2 (fR_refl w2) 2 (Or.inl rfl) _)) r2.1.2.2.2.2.2
      · show xI (xUpI w2 341 2 (nI a)) 341 4 = _
        rw [x_uI, if_neg (by omega)]; exact o2
      · show (xB w).1 ≤ (xB w1).1 - 3 + 3 ∧ (xB w).2 ≤ (xB w1).2 - (2 * (wl T (sk T a) - sk T a) + 10) + (2 * (wl T (sk T a) - sk T a) + 10)
        rw [b1] at hb ⊢; omega
      · rw [hh, hi, bI_n0 y]; rfl
      · show (xB w).1 ≤ (xB w1).1 - 3 + 3 ∧ (xB w).2 ≤ (xB w1).2 - (2 * (wl T (sk T a) - sk T a) + 10) + (2 * (wl T (sk T a) - sk T a) + 10)
        rw [b1] at hb ⊢; omega
theorem own_fd {b : Nat} : (fdI (fstP (fun k => decide (wT (10 + k) = wB T b)) 22) = -1 ↔ ownB T b = false) := by
  have e : ∀ k, decide (wT (10 + k) = wB T b) = wEq T b (wT (10 + k)) := fun k => by rw [wB_eq]; exact decide_eq_decide.mpr ⟨fun h => h.symm, fun h => h.symm⟩
  rw [show (fun k => decide (wT (10 + k) = wB T b)) = fun k => wEq T b (wT (10 + k)) from funext e]
  unfold ownB
  rcases fstP_ex (f := fun k => wEq T b (wT (10 + k))) (n := 22) with ⟨h1, h2⟩ | ⟨p, h1, hp, h2, h3⟩
  · rw [h1]
    refine ⟨fun _ => ?_, fun _ => rfl⟩
    rw [List.any_eq_false]; intro k hk; rw [h2 k (List.mem_range.mp hk)]; decide
  · rw [h1]
    refine ⟨fun z => ?_, fun z => ?_⟩
    · have : (nI p).toInt = -1 := by rw [show nI p = -1 from z]; decide
      rw [n_T (by omega)] at this; omega
    · rw [List.any_eq_false] at z
      exact absurd h2 (z p (List.mem_range.mpr hp))
theorem x_name (h : XZ T a w) (hb : 3 ≤ (xB w).1 ∧ 2 * (wl T (sk T a) - sk T a) + 10 ≤ (xB w).2)
    (qe : ∀ kd pl, nmP T a = .inl (kd, pl) → ∀ w', xq w w' → XBad kd pl w' → (xS w' 342).1 = 4 → Qx 342 w')
    (qo : ∀ e, nmP T a = .inr e → ∀ w', xq w w' → XZ T e w' → xI w' 341 3 = nI (sk T a) → xI w' 341 4 = xI w 341 4 → XStr (wB T (sk T a)) (xN w + 1) w' → xN w' = xN w + 3 → xR w' (xN w + 1) 0 = xN w + 1 + 1 → Q (some (.ref (xN w + 1))) w') : V_X2_name [.ref 341] w Q Qx := by
  have hN := XZ_n h
  have hs := sk_is T h.1.2.2
  have l16 := h.1.1.2.2.2.2.1.1
  unfold nmP at qe qo
  refine e_X2_name (r_X2_name_0 ⟨h.1.1.1.1, 3, 2 * (wl T (sk T a) - sk T a) + 10, hb, x_word (w := xSetB w _) h.1 ⟨Nat.le_refl _, Nat.le_refl _⟩ (fun hi w1 f1 e1 s1 => qe _ _ (if_neg (by rw [hi, Bool.false_and]; decide)) _ (xq_f (w1 := w1) f1) e1 s1) (fun hi w1 f1 n1 r1 fr1 op1 S1 z1 => r_X2_name_4 ?_)⟩)
  have f1 : xq w w1 := f1
  have c1 := XC_q h.2 f1 hN
  have S1 : XStr (wB T (sk T a)) (xN w + 1) w1 := S1
  have hl := wB_len (T := T) (sk T a)
  have hw := (spL_is T isLe (sk T a) hs.2)
  have ewl : spL T isLe (sk T a) = wl T (sk T a) := rfl
  rw [ewl] at hw
  refine x_find (w := xSetB w1 _) (S := wB T (sk T a)) (f := fun k => wT (10 + k)) S1 (by show 256 ≤ xN w + 1; omega) (by omega) c1.2.2.2.2.1 (fun k hk => by
    have e := c1.2.2.2.2.2 k hk
    show XStr (wT (10 + k)) (xR w1 4 k) w1
    rw [e]; exact (c1.1 (10 + k) (by omega) (by omega)).1) (r_X2_name_12 ⟨fun z => ⟨S1.1.1, x_length (w := xSetB w1 _) S1 (r_X2_name_30 ?_)⟩, fun z => ⟨r1.1.1.1, r1.1.1.1, ?_⟩⟩)
  · have ow := own_fd.mp z
    have hc : (isWd T (sk T a) && !ownB T (sk T a)) = true := by rw [hi, ow]; rfl
    rw [if_pos hc] at qe qo
    rw [hl, show (nI (wl T (sk T a) - sk T a) ≤ (6 : Int32)) ↔ wl T (sk T a) - sk T a ≤ 6 from n_le (b := 6) (by omega) (by omega)]
    refine ⟨fun y => ⟨⟨_, rfl, rfl⟩, qo _ (if_neg (by omega)) _ f1 ⟨r1, c1⟩ fr1 op1 S1 n1 z1.2⟩, fun y => ⟨r1.1.1.1, r1.1.1.1, ?_⟩⟩
    · have e6 : xI w1 341 3 + 6 = nI (sk T a + 6) := by rw [fr1]; exact n_add _ 6
      refine x_wrong (T := T) (kd := 1) (pl := sk T a + 6) (by exact r1.1) rfl (by exact e6) (fun w2 f2 b2 e2 s2 _ => ?_)
      exact r_X2_name_47 ⟨s2, qe _ _ (if_pos (by omega)) w2 (xq_trans f1 (xq_f (w := w1) f2)) e2 s2⟩
  · have ow : ownB T (sk T a) = true := by
      cases ho : ownB T (sk T a) with
      | true => rfl
      | false => exact absurd (own_fd.mpr ho) z
    refine x_wrong (T := T) (kd := 1) (pl := sk T a) (by exact r1.1) rfl (by exact fr1) (fun w2 f2 b2 e2 s2 _ => ?_)
    exact r_X2_name_25 ⟨s2, qe _ _ (if_neg (by rw [ow, Bool.not_true, Bool.and_false]; decide)) w2 (xq_trans f1 (xq_f (w := w1) f2)) e2 s2⟩
theorem x_most {b : Bool} {x y : Int32} {pl : Nat} (h : XRt T w) (hx : x = bI b) (hy : y = nI pl) (qe : b = true → ∀ w', fR w w' → XBad 5 pl w' → (xS w' 342).1 = 4 → Qx 342 w') (qo : b = false → Q none w) : V_X2_most [.ref 341, .int x, .int y] w Q Qx := by
  subst hx hy
  exact e_X2_most (r_X2_most_0 ⟨fun z => ⟨rfl, qo (bI_e0 z)⟩, fun z => ⟨h.1.1, x_wrong h (kd := 5) rfl rfl (fun w2 f2 b2 e2 s2 _ => r_X2_most_10 ⟨s2, qe (bI_n0 z) w2 f2 e2 s2⟩)⟩⟩)
theorem x_opens {op pl : Nat} {y : Int32} (h : XZ T a w) (ho : xI w 341 4 = nI op) (hp : op ≤ 6) (hy : y = nI pl) (qe : op = 6 → ∀ w', xq w w' → XBad 4 pl w' → (xS w' 342).1 = 4 → Qx 342 w')
    (qo : op ≠ 6 → ∀ w', xq w w' → XZ T a w' → xI w' 341 3 = xI w 341 3 → xI w' 341 4 = nI (op + 1) → xB w' = xB w → Q none w') : V_X2_opens [.ref 341, .int y] w Q Qx := by
  subst hy
  refine e_X2_opens (r_X2_opens_0 ?_)
  have hN := XZ_n h
  rw [ho, show (nI op = (6 : Int32)) ↔ op = 6 from n_eq (b := 6) (by omega) (by omega), show nI op + 1 = nI (op + 1) from n_add op 1]
  have f : xq w (xUpI w 341 4 (nI (op + 1))) := ⟨Nat.le_refl _, fun _ _ => ⟨rfl, rfl, rfl⟩, fun i j _ x y => by rw [x_uI, if_neg (by omega)]⟩
  refine ⟨h.1.1.1.1, fun z => ⟨h.1.1.1.1, h.1.1.1.1, by omega, rfl, qo z _ f ⟨⟨XRt_q h.1.1 f, by rw [x_uI, if_neg (by omega)]; exact h.1.2.1, h.1.2.2⟩, XC_q h.2 f hN⟩ (by rw [x_uI, if_neg (by omega)]) (by rw [x_uI, if_pos ⟨rfl, rfl⟩]) rfl⟩, fun z => ⟨h.1.1.1.1, x_wrong h.1.1 (kd := 4) rfl rfl (fun w2 f2 b2 e2 s2 _ => r_X2_opens_15 ⟨s2, qe (Decidable.not_not.mp z) w2 (xq_f f2) e2 s2⟩)⟩⟩
end
