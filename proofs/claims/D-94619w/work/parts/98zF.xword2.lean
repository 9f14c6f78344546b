/-! X: words that are read -/
section
variable {Q : Option Value → xw → Prop} {Qx : Nat → xw → Prop} {w : xw} {T : List Nat} {a : Nat}
/-- what reading alters, with what it makes -/
def xq (w w' : xw) : Prop := xN w ≤ xN w' ∧ (∀ i, i < xN w → xS w' i = xS w i ∧ xL w' i = xL w i ∧ xR w' i = xR w i) ∧ ∀ i j, i < xN w → ¬ (i = 341 ∧ (j = 2 ∨ j = 3 ∨ j = 4)) → ¬ (i = 342 ∧ (j = 6 ∨ j = 7)) → xI w' i j = xI w i j
theorem xq_refl (w : xw) : xq w w := ⟨Nat.le_refl _, fun _ _ => ⟨rfl, rfl, rfl⟩, fun _ _ _ _ _ => rfl⟩
theorem xq_trans {w1 w2 : xw} (h : xq w w1) (g : xq w1 w2) : xq w w2 := ⟨Nat.le_trans h.1 g.1, fun i hi => by
    obtain ⟨a1, a2, a3⟩ := h.2.1 i hi
    obtain ⟨b1, b2, b3⟩ := g.2.1 i (Nat.lt_of_lt_of_le hi h.1)
    exact ⟨b1.trans a1, b2.trans a2, b3.trans a3⟩, fun i j hi x y => (g.2.2 i j (Nat.lt_of_lt_of_le hi h.1) x y).trans (h.2.2 i j hi x y)⟩
theorem xq_f {w1 : xw} (h : fR w w1) : xq w w1 := ⟨by rw [h.1.1]; exact Nat.le_refl _, fun i _ => ⟨by rw [h.1.2], by rw [h.2.1.1], by rw [h.2.1.2]⟩, fun i j _ x y => h.2.2 i j (by omega) y⟩
theorem xq_k {w1 : xw} (h : xk (fun _ => False) w w1) : xq w w1 := ⟨h.1, fun i hi => by
    obtain ⟨a1, a2, a3⟩ := h.2.2 i hi (fun z => z)
    exact ⟨h.2.1 i hi, a2, a3⟩, fun i j hi _ _ => by rw [(h.2.2 i hi (fun z => z)).1]⟩
theorem xq_B {w1 : xw} (h : xq w w1) (b : Nat × Nat) : xq w (xSetB w1 b) := h
theorem XRt_q {w' : xw} (h : XRt T w) (f : xq w w') : XRt T w' := by
  obtain ⟨⟨a1, a2, a3, a4⟩, ⟨b1, b2, b3⟩, c1, c2, c3, c4⟩ := h
  obtain ⟨f1, f2, f5⟩ := f
  have s := fun i (hi : i < 794) => f2 i (by omega)
  exact ⟨⟨by rw [(s 341 (by omega)).1]; exact a1, by rw [(s 342 (by omega)).1]; exact a2, by rw [(s 256 (by omega)).1]; exact a3, by rw [(s 340 (by omega)).1]; exact a4⟩, ⟨by rw [(s 341 (by omega)).2.2]; exact b1, by rw [(s 341 (by omega)).2.2]; exact b2, by rw [(s 256 (by omega)).2.2]; exact b3⟩, by rw [f5 _ _ (by omega) (by omega) (by omega)]; exact c1, fun k hk => by rw [f5 _ _ (by omega) (by omega) (by omega)]; exact c2 k hk, c3, by omega⟩
theorem XStr_q {S : List Nat} {o : Nat} {w' : xw} (h : XStr S o w) (f : xq w w') (h1 : o ≠ 341 ∧ o ≠ 342) (h2 : xR w o 0 ≠ 341 ∧ xR w o 0 ≠ 342) : XStr S o w' := by
  obtain ⟨⟨a1, a2, a3⟩, b1, ⟨c1, c2⟩, d1, e1, g1, g2⟩ := h
  obtain ⟨f1, f2, f5⟩ := f
  have er : xR w' o 0 = xR w o 0 := by rw [(f2 o a3).2.2]
  exact ⟨⟨by rw [(f2 o a3).1]; exact a1, a2, by omega⟩, by rw [f5 _ _ a3 (by omega) (by omega)]; exact b1, ⟨by rw [er]; exact c1, by rw [er]; omega⟩, by rw [er, (f2 _ c2).1]; exact d1, fun j hj => by rw [er, f5 _ _ c2 (by omega) (by omega)]; exact e1 j hj, g1, g2⟩
/-- the bytes of the word at a place -/
def wB (T : List Nat) (b : Nat) : List Nat := (List.range (wl T b - b)).map (fun i => T.getD (b + i) 0)
theorem wB_len (b : Nat) : (wB T b).length = wl T b - b := by unfold wB; rw [List.length_map, List.length_range]
theorem wB_get (b j : Nat) (h : j < wl T b - b) : (wB T b).getD j 0 = T.getD (b + j) 0 := by
  unfold wB
  rw [List.getD_eq_getElem?_getD, List.getElem?_map, List.getElem?_range h]; rfl
theorem wB_le {b : Nat} (hb : b ≤ T.length) : ∀ c, c ∈ wB T b → 97 ≤ c ∧ c ≤ 122 := fun c hc => by
  unfold wB at hc
  obtain ⟨i, hi, e⟩ := List.mem_map.mp hc
  have sp := spL_is T isLe b hb
  have e2 : spL T isLe b = wl T b := rfl
  rw [e2] at sp
  have hi := List.mem_range.mp hi
  have := sp.2.2.1 (b + i) (by omega) (by omega)
  unfold isLe at this
  rw [Bool.and_eq_true, decide_eq_true_eq, decide_eq_true_eq] at this
  omega
theorem ch_b : ∀ c, c < 128 → vp_nar .char (UInt32.toInt32 (Int32.toUInt32 (sx c) % 65536)) = nI c := by decide +kernel
set_option maxHeartbeats 1000000 in
theorem x_word (h : XRd T a w) (hb : 3 ≤ (xB w).1 ∧ 2 * (wl T (sk T a) - sk T a) + 10 ≤ (xB w).2)
    (qe : isWd T (sk T a) = false → ∀ w', fR w w' → XBad 1 (sk T a) w' → (xS w' 342).1 = 4 → Qx 342 w')
    (qo : isWd T (sk T a) = true → ∀ w', xq w w' → xN w' = xN w + 3 → XRd T (wl T (sk T a)) w' → xI w' 341 3 = nI (sk T a) → xI w' 341 4 = xI w 341 4 → XStr (wB T (sk T a)) (xN w + 1) w' → (xI w' (xN w + 1) 2 = 0 ∧ xI w' (xN w + 1) 3 = 0) ∧ xR w' (xN w + 1) 0 = xN w + 1 + 1 → Q (some (.ref (xN w + 1))) w') : V_X2_word_2 [.ref 341] w Q Qx := by
  have hT := h.1.2.2.2.2.1
  have l16 := hT.1
  have hN := h.1.2.2.2.2.2
  have hs := sk_is T h.2.2
  refine e_X2_word_2 (r_X2_word_2_0 ⟨h.1.1.1, x_here (w0 := w) a w h (fR_refl w) rfl (fun w1 f1 b1 r1 j1 => r_X2_word_2_4 (x_leC hT (r_X2_word_2_7 ?_)))⟩)
  generalize hbb : sk T a = b at *
  have iw : isWd T b = (leB T b && !prt T b) := by unfold isWd leB; rfl
  rw [r1.2.1]
  refine ⟨fun z => ⟨r1.1.1.1, 0, 0, ⟨Nat.zero_le _, Nat.zero_le _⟩, x_parted (w := xSetB w1 (0, 0)) r1 (fun hp w2 f2 e2 s2 => ?_) (fun hp => r_X2_word_2_24 ⟨r1.1.1.1, r1.1.1.1, by omega, ?_⟩)⟩, fun z => ⟨r1.1.1.1, r1.1.1.1, x_wrong r1.1 (kd := 1) (pl := b) rfl rfl (fun w2 f2 b2 e2 s2 _ => r_X2_word_2_19 ⟨s2, qe ?_ w2 (fR_trans f1 f2) e2 s2⟩)⟩⟩
  · exact qe (by rw [iw, hp, Bool.not_true, Bool.and_false]) _ (fR_B (fR_trans f1 f2) _) e2 s2
  rotate_left
  · rw [iw, bI_nn0 z]; rfl
  have hle := bI_n0 z
  have hwd : isWd T b = true := by rw [iw, hle, hp]; rfl
  have qo := qo hwd
  clear qe
  have hbl : b < T.length := by
    unfold leB at hle
    rw [Bool.and_eq_true, decide_eq_true_eq] at hle; exact hle.1
  have hb1 : isLe (T.getD b 0) = true := by
    unfold leB at hle
    rw [Bool.and_eq_true] at hle; exact hle.2
  have sp := spL_is T isLe b (by omega)
  have spe : spL T isLe b = wl T b := rfl
  rw [spe] at sp
  have hgt : b < wl T b := by
    have e2 : wl T b = wl T (b + 1) := spL_go hbl hb1
    have e3 := (spL_is T isLe (b + 1) (by omega)).1
    have e4 : spL T isLe (b + 1) = wl T (b + 1) := rfl
    omega
  -- chars are copied
  have copy : ∀ w2 : xw, fR w w2 → xB w2 = xB w → XRd T (wl T b) w2 → xI w2 341 3 = nI b → xI w2 341 4 = xI w 341 4 → T_X2_word_2 Qx Q 43 [some (.ref 341), none, none] [.int (nI 0)] w2 := by
    intro w2 f2 b2 r2 fr2 op2
    have hn2 : xN w2 = xN w := f2.1.1
    have en : nI (wl T b) - nI b = nI (wl T b - b) := n_sub (by omega)
    refine r_X2_word_2_43 ⟨fun _ => ⟨r2.1.1.1, r2.1.1.1, ?_⟩, fun z => absurd rfl z⟩
    rw [r2.2.1, fr2, en, n_tn (by omega)]
    have hnl : ¬ (nI (wl T b - b) < (0 : Int32)) := by rw [show (nI (wl T b - b) < (0 : Int32)) ↔ wl T b - b < 0 from n_lt (b := 0) (by omega) (by omega)]; omega
    have k3 : xk (fun _ => False) w2 (xNew1 w2 (53, wl T b - b) (wl T b - b)) := xk_n1 (xk_refl _ w2) _ _
    have q3 : xq w2 (xNew1 w2 (53, wl T b - b) (wl T b - b)) := xq_k k3
    have r3 : XRt T (xNew1 w2 (53, wl T b - b) (wl T b - b)) := XRt_q r2.1 q3
    have i341 : xI (xNew1 w2 (53, wl T b - b) (wl T b - b)) 341 = xI w2 341 := n1_I (by omega)
    rw [i341, fr2]
    refine ⟨⟨hnl, by rw [b2]; omega, by rw [b2]; omega, by omega⟩, r3.1.1, ?_⟩
    have B3 : xB (xNew1 w2 (53, wl T b - b) (wl T b - b)) = ((xB w).1 - 1, (xB w).2 - (wl T b - b)) := by show ((xB w2).1 - 1, (xB w2).2 - _) = _; rw [b2]
    have sC : xS (xNew1 w2 (53, wl T b - b) (wl T b - b)) (xN w) = (53, wl T b - b) := by rw [← hn2]; exact n1_S0
    rw [hn2]
    have n3 : xN (xNew1 w2 (53, wl T b - b) (wl T b - b)) = xN w + 1 := by show xN w2 + 1 = _; omega
    generalize xNew1 w2 (53, wl T b - b) (wl T b - b) = w3 at *
    have main : ∀ w4 : xw, (xN w4 = xN w3 ∧ xS w4 = xS w3 ∧ xL w4 = xL w3 ∧ xR w4 = xR w3 ∧ xB w4 = xB w3 ∧ ∀ i, i ≠ xN w → xI w4 i = xI w3 i) → (∀ j, j < wl T b - b → xI w4 (xN w) j = nI (T.getD (b + j) 0)) → T_X2_word_2 Qx Q 76 [some (.ref 341), some (.ref (xN w)), some (.int (nI (wl T b)))] [] w4 := by
      intro w4 f4 hc
      obtain ⟨n4, s4, l4, rr4, b4, i4⟩ := f4
      have q13 : xq w w3 := xq_trans (xq_f f2) q3
      have qw4 : xq w w4 := ⟨by rw [n4]; exact q13.1, fun i hi => ⟨by rw [s4]; exact (q13.2.1 i hi).1, by rw [l4]; exact (q13.2.1 i hi).2.1, by rw [rr4]; exact (q13.2.1 i hi).2.2⟩, fun i j hi x y => by rw [i4 i (by omega)]; exact q13.2.2 i j hi x y⟩
      have r4 := XRt_q h.1 qw4
      have hlen : (wB T b).length = wl T b - b := wB_len b
      have hx : xNf 17 ≤ 10 := by decide
      have at4 : xI w4 341 2 = nI (wl T b) := by rw [i4 341 (by omega), i341]; exact r2.2.1
      have fr4 : xI w4 341 3 = nI b := by rw [i4 341 (by omega), i341]; exact fr2
      have op4 : xI w4 341 4 = xI w 341 4 := by rw [i4 341 (by omega), i341]; exact op2
      refine r_X2_word_2_76 ⟨r4.1.1, fun _ => ⟨2, xNf 17 + (wl T b - b), ⟨by rw [b4, B3]; show 2 ≤ (xB w).1 - 1; omega, by rw [b4, B3]; show _ ≤ (xB w).2 - (wl T b - b); omega⟩, x_valueOf (S := wB T b) (C := xN w) (by show 256 ≤ xN w4; omega) (by show xN w < xN w4; omega) (by rw [xS_sB, s4, hlen]; exact sC) (fun j hj => by rw [hlen] at hj; show xI w4 (xN w) j = _; rw [wB_get b j hj]; exact hc j hj) (fun c hc => by have := wB_le (T := T) (b := b) (by omega) c hc; omega) (by omega) (by omega) ⟨Nat.le_refl 2, by show xNf 17 + (wB T b).length ≤ xNf 17 + (wl T b - b); omega⟩ (fun w5 n5 S5 k5 z5 => r_X2_word_2_112 ⟨⟨_, rfl, rfl⟩, ?_⟩)⟩, fun z => absurd (by rw [at4]; exact Int32.le_refl _) z⟩
      have e4 : xN (xSetB w4 (2, xNf 17 + (wl T b - b))) = xN w + 1 := by show xN w4 = _; omega
      have q5 : xq w w5 := xq_trans qw4 (xq_k (w := xSetB w4 (2, xNf 17 + (wl T b - b))) k5)
      have i5 : xI w5 341 = xI w4 341 := (k5.2.2 341 (by show 341 < xN w4; omega) (fun z => z)).1
      rw [e4] at n5 S5 z5 ⊢
      exact qo _ (xq_B q5 _) n5 ⟨XRt_q h.1 (xq_B q5 _), by show xI w5 341 2 = _; rw [i5]; exact at4, r2.2.2⟩ (by show xI w5 341 3 = _; rw [i5]; exact fr4) (by show xI w5 341 4 = _; rw [i5]; exact op4) S5 z5
    have loop : ∀ (m k : Nat) (w4 : xw), k + m = wl T b → b ≤ k → (xN w4 = xN w3 ∧ xS w4 = xS w3 ∧ xL w4 = xL w3 ∧ xR w4 = xR w3 ∧ xB w4 = xB w3 ∧ ∀ i, i ≠ xN w → xI w4 i = xI w3 i) → (∀ j, b + j < k → xI w4 (xN w) j = nI (T.getD (b + j) 0)) → T_X2_word_2 Qx Q 76 [some (.ref 341), some (.ref (xN w)), some (.int (nI k))] [] w4 := by
      intro m
      induction m with
      | zero =>
        intro k w4 hk hbk f4 hc
        have hk : k = wl T b := by omega
        subst hk
        exact main w4 f4 (fun j hj => hc j (by omega))
      | succ m ih =>
        intro k w4 hk hbk f4 hc
        obtain ⟨n4, s4, l4, rr4, b4, i4⟩ := f4
        obtain ⟨⟨a1, a2, a3, a4⟩, ⟨b1, b2', b3⟩, c1, c2, c3, c4⟩ := r3
        have at4 : xI w4 341 2 = nI (wl T b) := by rw [i4 341 (by omega), i341]; exact r2.2.1
        have fr4 : xI w4 341 3 = nI b := by rw [i4 341 (by omega), i341]; exact fr2
        have s3 : (xS w4 341).1 = 3 := by rw [s4]; exact a1
        have hm := wB_le (T := T) (b := b) (by omega) (T.getD k 0) (by
          unfold wB; exact List.mem_map.mpr ⟨k - b, List.mem_range.mpr (by omega), by rw [show b + (k - b) = k by omega]⟩)
        refine r_X2_word_2_76 ?_
        rw [at4, fr4, rr4, b2', b3, s4, a4, sC, i4 340 (by omega), n_le (by omega) (by omega), n_tn (by omega), n_sub hbk, n_tn (by omega), c2 k (by omega), ch_b _ (by omega), show nI k + 1 = nI (k + 1) from n_add k 1]
        refine ⟨a1, fun z => by omega, fun _ => ⟨a1, a1, by omega, a3, by omega, rfl, (n_in (by omega)).mpr (by dsimp only; omega), rfl, by omega, (n_in (by omega)).mpr (by dsimp only; omega), ih (k + 1) _ (by omega) (by omega) ⟨n4, s4, l4, rr4, b4, fun i hi => ?_⟩ (fun j hj => ?_)⟩⟩
        · rw [(xUpI_ne w4 (xN w) (k - b) _ i hi).1]; exact i4 i hi
        · rw [x_uI]
          by_cases e : j = k - b
          · rw [if_pos ⟨rfl, e⟩, e, show b + (k - b) = k by omega]
          · rw [if_neg (by omega)]; exact hc j (by omega)
    exact loop (wl T b - b) b w3 (by omega) (Nat.le_refl _) ⟨rfl, rfl, rfl, rfl, rfl, fun _ _ => rfl⟩ (fun j hj => by omega)
  have go : ∀ k, ∀ w2 : xw, wl T k = wl T b → fR w w2 → xB w2 = xB w → XRd T k w2 → xI w2 341 3 = nI b → xI w2 341 4 = xI w 341 4 → T_X2_word_2 Qx Q 32 [some (.ref 341), none, none] [] w2 := by
    refine spL_ind (T := T) (f := isLe) (fun k => ∀ w2 : xw, wl T k = wl T b → fR w w2 → xB w2 = xB w → XRd T k w2 → xI w2 341 3 = nI b → xI w2 341 4 = xI w 341 4 → T_X2_word_2 Qx Q 32 [some (.ref 341), none, none] [] w2) (fun k hk w2 ek f2 b2 r2 fr2 op2 => ?_) (fun k h1 h2 ih w2 ek f2 b2 r2 fr2 op2 => ?_)
    · have e0 : wl T k = k := spL_no hk
      have el : leB T k = false := by
        unfold leB
        by_cases c : k < T.length
        · rw [hk c, Bool.and_false]
        · rw [decide_eq_false c]; rfl
      refine r_X2_word_2_32 ⟨r2.1.1.1, r2.1.1.1, ?_⟩
      have kl := r2.2.2
      rw [r2.2.1]
      refine x_byteAt r2.1 (by omega) (r_X2_word_2_40 (x_leC hT ?_))
      rw [el]
      exact copy w2 f2 b2 (by rw [← ek, e0]; exact r2) fr2 op2
    · have e0 : wl T k = wl T (k + 1) := spL_go h1 h2
      have el : leB T k = true := by unfold leB; rw [decide_eq_true h1, h2]; rfl
      refine r_X2_word_2_32 ⟨r2.1.1.1, r2.1.1.1, ?_⟩
      rw [r2.2.1]
      refine x_byteAt r2.1 (by omega) (r_X2_word_2_40 (x_leC hT (r_X2_word_2_43 ?_)))
      rw [el, r2.2.1, show nI k + 1 = nI (k + 1) from n_add k 1]
      have fu : fR w2 (xUpI w2 341 2 (nI (k + 1))) := fR_u2 (fR_refl w2) 2 (Or.inl rfl) _
      exact ⟨fun z => absurd z (by decide), fun _ => ⟨r2.1.1.1, r2.1.1.1, by omega, ih _ (by rw [← e0]; exact ek) (fR_trans f2 fu) b2 ⟨XRt_f r2.1 fu, by rw [x_uI, if_pos ⟨rfl, rfl⟩], by omega⟩ (by rw [x_uI, if_neg (by omega)]; exact fr2) (by rw [x_uI, if_neg (by omega)]; exact op2)⟩⟩
  have at1 : xI (xSetB (xSetB w1 (0, 0)) ((xB w1).1 - 0, (xB w1).2 - 0)) 341 2 = nI b := r1.2.1
  rw [at1]
  have fu : fR w1 (xUpI w1 341 3 (nI b)) := fR_u2 (fR_refl w1) 3 (Or.inr rfl) _
  have r9 := XRt_f r1.1 fu
  exact go b _ rfl (fR_trans f1 fu) b1 ⟨r9, by show xI (xUpI w1 341 3 (nI b)) 341 2 = _; rw [x_uI, if_neg (by omega)]; exact r1.2.1, by omega⟩ (by show xI (xUpI w1 341 3 (nI b)) 341 3 = _; rw [x_uI, if_pos ⟨rfl, rfl⟩]) (by show xI (xUpI w1 341 3 (nI b)) 341 4 = _; rw [x_uI, if_neg (by omega)]; exact j1 4 (by omega))
end
