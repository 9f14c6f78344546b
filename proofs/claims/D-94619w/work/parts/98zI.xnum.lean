/-! X: numbers -/
section
variable {Q : Option Value → xw → Prop} {Qx : Nat → xw → Prop} {w : xw} {T : List Nat} {a : Nat}
set_option maxHeartbeats 1000000 in
theorem x_number {lo hi : Nat} {x y : Int32} (h : XZ T a w) (hx : x = nI lo) (hy : y = nI hi) (hlo : lo < 100000) (hhi : hi < 100000)
    (qe : ∀ kd pl, numP T a lo hi = .inl (kd, pl) → ∀ w', xq w w' → XBad kd pl w' → (xS w' 342).1 = 4 → Qx 342 w')
    (qo : ∀ v e, numP T a lo hi = .inr (v, e) → ∀ w', fR w w' → XZ T e w' → xI w' 341 3 = nI (sk T a) → xB w' = xB w → Q (some (.int (nI v))) w') : V_X2_number [.ref 341, .int x, .int y] w Q Qx := by
  subst hx hy
  have hT := h.1.1.2.2.2.2.1
  have l16 := hT.1
  have hN := XZ_n h
  have hs := sk_is T h.1.2.2
  unfold numP at qe qo
  refine e_X2_number (r_X2_number_0 ⟨h.1.1.1.1, x_here (w0 := w) a w h.1 (fR_refl w) rfl (fun w1 f1 b1 r1 j1 => r_X2_number_4 (x_diC hT (r_X2_number_7 ?_)))⟩)
  generalize hbb : sk T a = b at *
  rw [r1.2.1]
  have hd9 : (decide (b < T.length) && isDi (T.getD b 0) && !prt T b) = (diB T b && !prt T b) := rfl
  rw [hd9] at qe qo
  refine ⟨fun z => ⟨r1.1.1.1, 0, 0, ⟨Nat.zero_le _, Nat.zero_le _⟩, x_parted (w := xSetB w1 (0, 0)) r1 (fun hp w2 f2 e2 s2 => ?_) (fun hp => r_X2_number_24 ⟨r1.1.1.1, r1.1.1.1, by omega, ?_⟩)⟩, fun z => ⟨r1.1.1.1, r1.1.1.1, x_wrong r1.1 (kd := 1) (pl := b) rfl rfl (fun w2 f2 b2 e2 s2 _ => r_X2_number_19 ⟨s2, qe _ _ (if_neg ?_) w2 (xq_f (fR_trans f1 f2)) e2 s2⟩)⟩⟩
  · exact qe _ _ (if_neg (by rw [hp, Bool.not_true, Bool.and_false]; decide)) _ (xq_f (fR_B (fR_trans f1 f2) _)) e2 s2
  rotate_left
  · rw [bI_nn0 z, Bool.false_and]; decide
  have hdi := bI_n0 z
  rw [if_pos (by rw [hdi, hp]; rfl)] at qe qo
  have hbl : b < T.length := by
    unfold diB at hdi
    rw [Bool.and_eq_true, decide_eq_true_eq] at hdi; exact hdi.1
  have sp := spL_is T isDi b (by omega)
  have spe : spL T isDi b = dl T b := rfl
  rw [spe] at sp
  -- a step of the digits
  have go : ∀ (m k : Nat) (w2 : xw), b + k + m = dl T b → k ≤ 4 → fR w w2 → xB w2 = xB w → XRd T (b + k) w2 → xI w2 341 3 = nI b → T_X2_number Qx Q 34 [some (.ref 341), some (.int (nI lo)), some (.int (nI hi)), some (.int (nI (numV T b k)))] [] w2 := by
    intro m
    induction m with
    | zero =>
      intro k w2 hk k4 f2 b2 r2 fr2
      have hdk : diB T (b + k) = false := by
        unfold diB
        by_cases c : b + k < T.length
        · have := sp.2.2.2 (by omega)
          rw [show dl T b = b + k by omega] at this
          rw [this, Bool.and_false]
        · rw [decide_eq_false c]; rfl
      have vlt := numV_lt (T := T) (b := b) (k := k) (fun j hj => sp.2.2.1 (b + j) (by omega) (by omega))
      have v4 : numV T b k < 10 ^ 4 := Nat.lt_of_lt_of_le vlt (Nat.pow_le_pow_right (by omega) k4)
      have v4 : numV T b k < 10000 := v4
      refine r_X2_number_34 ⟨r2.1.1.1, r2.1.1.1, ?_⟩
      rw [r2.2.1]
      refine x_byteAt r2.1 (by omega) (r_X2_number_42 (x_diC hT (r_X2_number_45 ?_)))
      rw [hdk]
      refine ⟨fun _ => x_is _ _ _ (r_X2_number_107 ?_), fun z => absurd rfl z⟩
      rw [n_T (by omega), n_T (by omega), n_T (by omega), fr2]
      rw [show dl T b - b = k by omega, if_neg (by omega)] at qe qo
      refine ⟨fun z => ⟨trivial, ?_⟩, fun z => ⟨r2.1.1.1, r2.1.1.1, x_wrong r2.1 (kd := 2) (pl := b) rfl rfl (fun w3 f3 b3 e3 s3 _ => r_X2_number_119 ⟨s3, qe _ _ (if_neg ?_) w3 (xq_f (fR_trans f2 f3)) e3 s3⟩)⟩⟩
      · have z := decide_eq_true_eq.mp (bI_n0 z)
        have e9 : dl T b = b + k := by omega
        rw [e9] at qo
        exact qo _ _ (if_pos (by omega)) w2 f2 ⟨r2, XC_q h.2 (xq_f f2) hN⟩ fr2 b2
      · have z := decide_eq_false_iff_not.mp (bI_nn0 z)
        omega
    | succ m ih =>
      intro k w2 hk k4 f2 b2 r2 fr2
      have hkl : b + k < T.length := by omega
      have hi1 := sp.2.2.1 (b + k) (by omega) (by omega)
      have hdk : diB T (b + k) = true := by unfold diB; rw [decide_eq_true hkl, hi1]; rfl
      have vlt := numV_lt (T := T) (b := b) (k := k) (fun j hj => sp.2.2.1 (b + j) (by omega) (by omega))
      have v4 : numV T b k < 10 ^ 4 := Nat.lt_of_lt_of_le vlt (Nat.pow_le_pow_right (by omega) k4)
      have v4 : numV T b k < 10000 := v4
      unfold isDi at hi1
      rw [Bool.and_eq_true, decide_eq_true_eq, decide_eq_true_eq] at hi1
      refine r_X2_number_34 ⟨r2.1.1.1, r2.1.1.1, ?_⟩
      rw [r2.2.1]
      refine x_byteAt r2.1 (by omega) (r_X2_number_42 (x_diC hT (r_X2_number_45 ?_)))
      rw [hdk, r2.2.1, fr2, show nI (b + k) - nI b = nI k from by rw [n_sub (by omega)]; congr 1; omega, show (nI k = (4 : Int32)) ↔ k = 4 from n_eq (b := 4) (by omega) (by omega)]
      refine ⟨fun z => absurd z (by decide), fun _ => ⟨r2.1.1.1, r2.1.1.1, fun c4 => ⟨r2.1.1.1, r2.1.1.1, x_byteAt r2.1 (by omega) (r_X2_number_83 ⟨r2.1.1.1, r2.1.1.1, by omega, ?_⟩)⟩, fun c4 => ⟨r2.1.1.1, r2.1.1.1, ?_⟩⟩⟩
      · have ec : ch T (b + k) = nI (T.getD (b + k) 0) := if_pos hkl
        have ev : ((10 : Int32) * nI (numV T b k) + ch T (b + k)) - 48 = nI (numV T b (k + 1)) := by
          rw [ec, show (10 : Int32) * nI (numV T b k) = nI (10 * numV T b k) from n_mul 10 _, n_add, show (48 : Int32) = nI 48 from rfl, n_sub (by omega)]; rfl
        rw [ev, r2.2.1, show nI (b + k) + 1 = nI (b + (k + 1)) from n_add _ 1]
        have fu : fR w2 (xUpI w2 341 2 (nI (b + (k + 1)))) := fR_u2 (fR_refl w2) 2 (Or.inl rfl) _
        exact ih (k + 1) _ (by omega) (by omega) (fR_trans f2 fu) b2 ⟨XRt_f r2.1 fu, by rw [x_uI, if_pos ⟨rfl, rfl⟩], by omega⟩ (by rw [x_uI, if_neg (by omega)]; exact fr2)
      · have c4 := Decidable.not_not.mp c4
        exact x_wrong r2.1 (kd := 1) (pl := b + 4) rfl (by rw [c4]) (fun w3 f3 b3 e3 s3 _ => r_X2_number_70 ⟨s3, qe _ _ (if_pos (by omega)) w3 (xq_f (fR_trans f2 f3)) e3 s3⟩)
  have at1 : xI (xSetB (xSetB w1 (0, 0)) ((xB w1).1 - 0, (xB w1).2 - 0)) 341 2 = nI b := r1.2.1
  rw [at1]
  have fu : fR w1 (xUpI w1 341 3 (nI b)) := fR_u2 (fR_refl w1) 3 (Or.inr rfl) _
  exact go (dl T b - b) 0 (xUpI w1 341 3 (nI b)) (by omega) (by omega) (fR_trans f1 fu) b1 ⟨XRt_f r1.1 fu, by rw [x_uI, if_neg (by omega)]; exact r1.2.1, by omega⟩ (by rw [x_uI, if_pos ⟨rfl, rfl⟩])
theorem x_number2 {k lo hi : Nat} {x y : Int32} (h : XZ T a w) (h1 : 10 ≤ k) (h2 : k < 32) (hx : x = nI lo) (hy : y = nI hi) (hlo : lo < 100000) (hhi : hi < 100000) (hb : 3 ≤ (xB w).1 ∧ 2 * (wl T (sk T a) - sk T a) + 10 ≤ (xB w).2)
    (qe : ∀ kd pl, (hereB T a (wT k) = false ∧ kd = 1 ∧ pl = sk T a) ∨ (hereB T a (wT k) = true ∧ numP T (wl T (sk T a)) lo hi = .inl (kd, pl)) → ∀ w', xq w w' → XBad kd pl w' → (xS w' 342).1 = 4 → Qx 342 w')
    (qo : hereB T a (wT k) = true → ∀ v e, numP T (wl T (sk T a)) lo hi = .inr (v, e) → ∀ w', xq w w' → XZ T e w' → xI w' 341 3 = nI (sk T (wl T (sk T a))) → xI w' 341 4 = xI w 341 4 → XBd 3 (2 * (wl T (sk T a) - sk T a) + 10) w w' → Q (some (.int (nI v))) w') : V_X2_number_2 [.ref 341, .ref k, .int x, .int y] w Q Qx := by
  refine e_X2_number_2 (r_X2_number_2_0 ⟨h.1.1.1.1, 3, 2 * (wl T (sk T a) - sk T a) + 10, hb, x_wordS (w := xSetB w _) h h1 h2 ⟨Nat.le_refl _, Nat.le_refl _⟩ (fun hh w1 f1 e1 s1 => qe 1 (sk T a) (Or.inl ⟨hh, rfl, rfl⟩) _ f1 e1 s1) (fun hh w1 f1 z1 fr1 op1 _ => r_X2_number_2_5 ⟨z1.1.1.1.1, 0, 0, ⟨Nat.zero_le _, Nat.zero_le _⟩, ?_⟩)⟩)
  have f1 : xq w w1 := f1
  refine x_number (w := xSetB (xSetB w1 _) (0, 0)) z1 hx hy hlo hhi (fun kd pl hn w2 f2 e2 s2 => qe kd pl (Or.inr ⟨hh, hn⟩) _ (xq_trans f1 (w1 := w1) f2) e2 s2) (fun v e hn w2 f2 z2 fr2 b2 => r_X2_number_2_11 ⟨trivial, qo hh v e hn _ (xq_trans f1 (xq_f (w := w1) (w1 := w2) f2)) z2 fr2 ?_ ?_⟩)
  · have := f2.2.2 341 4 (by omega) (by omega)
    exact Eq.trans (b := xI w1 341 4) this op1
  · show (xB w).1 ≤ (xB w).1 - 3 - 0 + 3 ∧ (xB w).2 ≤ (xB w).2 - (2 * (wl T (sk T a) - sk T a) + 10) - 0 + (2 * (wl T (sk T a) - sk T a) + 10)
    omega
end
