/-! X: the Reader's part; so sums are read as the plain reading reads them -/
section
variable {T : List Nat}
theorem pE_part {f a op : Nat} : pE T (f + 1) 0 a op = if chB T (sk T a) 40 = true then wiP T f 0 a op else if (hereB T a (wT 30) || hereB T a (wT 31)) = true then wiP T f (if hereB T a (wT 30) = true then 1 else 2) (sk T a + 3) op else atP T a := by
  have e : pE T (f + 1) 0 a op = (if chB T (sk T a) 40 = true then (if op = 6 then .inl (4, sk T a) else bnd (pE T f 3 (sk T a + 1) (op + 1)) (fun c a1 => if chB T (sk T a1) 41 = true then .inr (c, sk T a1 + 1) else .inl (1, sk T a1)))
      else if (hereB T a (wT 30) || hereB T a (wT 31)) = true then
        if chB T (sk T (sk T a + 3)) 40 = true then (if op = 6 then .inl (4, sk T (sk T a + 3)) else bnd (pE T f 3 (sk T (sk T a + 3) + 1) (op + 1)) (fun c1 a1 => if chB T (sk T a1) 44 = true then bnd (pE T f 3 (sk T a1 + 1) (op + 1)) (fun c2 a2 => if chB T (sk T a2) 41 = true then .inr (c1 ++ c2 ++ [if hereB T a (wT 30) = true then 5 else 6], sk T a2 + 1) else .inl (1, sk T a2)) else .inl (1, sk T a1)))
        else .inl (1, sk T (sk T a + 3))
      else atP T a) := rfl
  rw [e]
  by_cases h1 : chB T (sk T a) 40 = true
  · rw [if_pos h1, if_pos h1]
    unfold wiP
    rw [if_pos h1]; rfl
  · rw [if_neg h1, if_neg h1]
    by_cases h2 : (hereB T a (wT 30) || hereB T a (wT 31)) = true
    · rw [if_pos h2, if_pos h2]
      by_cases h3 : hereB T a (wT 30) = true
      · rw [if_pos h3, if_pos h3]; rfl
      · rw [if_neg h3, if_neg h3]; rfl
    · rw [if_neg h2, if_neg h2]
theorem wi_ge {f k a op : Nat} {c : List Nat} {p : Nat} (h : wiP T f k a op = .inr (c, p)) : a ≤ p := by
  have hs := sk_ge T a
  unfold wiP at h
  split at h
  · split at h
    · cases h
    · obtain ⟨c1, b1, h1, h2⟩ := bnd_inv h
      have g1 := pE_len T f _ _ _ _ _ h1
      have s1 := sk_ge T b1
      split at h2
      · split at h2
        · cases h2; omega
        · cases h2
      · split at h2
        · obtain ⟨c2, b2, h3, h4⟩ := bnd_inv h2
          have g2 := pE_len T f _ _ _ _ _ h3
          have s2 := sk_ge T b2
          split at h4
          · cases h4; omega
          · cases h4
        · cases h2
  · cases h
theorem here_dig {a : Nat} {W : List Nat} (h : diB T (sk T a) = true) : hereB T a W = false := by
  unfold diB at h
  rw [Bool.and_eq_true] at h
  unfold hereB isWd
  have : isLe (T.getD (sk T a) 0) = false := by
    have h := h.2
    unfold isDi at h
    rw [Bool.and_eq_true, decide_eq_true_eq, decide_eq_true_eq] at h
    unfold isLe
    rw [decide_eq_false (by omega)]; rfl
  rw [this, Bool.and_false, Bool.false_and, Bool.false_and]
theorem xsm_refl (P : Nat → Prop) (w : xw) : xsm P w w := ⟨Nat.le_refl _, fun _ _ => ⟨rfl, rfl, rfl, rfl⟩⟩
theorem here_is {a k : Nat} (h : isWd T (sk T a) = true) : hereB T a (wT k) = decide (wB T (sk T a) = wT k) := by unfold hereB; rw [wB_eq, h, Bool.true_and]
theorem wT_ne : ∀ i, i < 22 → ∀ j, j < 22 → i ≠ j → wT (10 + i) ≠ wT (10 + j) := by decide +kernel
theorem here_one {a i j : Nat} (hi : 10 ≤ i ∧ i < 32) (hj : 10 ≤ j ∧ j < 32) (hij : i ≠ j) (h : hereB T a (wT i) = true) : hereB T a (wT j) = false := by
  have hw : isWd T (sk T a) = true := by unfold hereB at h; rw [Bool.and_eq_true] at h; exact h.1
  rw [here_is hw, decide_eq_true_eq] at h
  rw [here_is hw, decide_eq_false_iff_not, h]
  have := wT_ne (i - 10) (by omega) (j - 10) (by omega) (by omega)
  rw [show 10 + (i - 10) = i by omega, show 10 + (j - 10) = j by omega] at this
  exact this
set_option maxHeartbeats 4000000 in
theorem x_part (f : Nat) (hs : SE T f 3 0 0 2 4) : SE T (f + 1) 0 2 20 0 2 := by
  intro a op d w Q Qx hz ho hop hd hne hb qe qo
  obtain ⟨d, rfl⟩ : ∃ n, d = n + 1 := ⟨d - 1, by omega⟩
  have hal := XZs_le hz
  have hN := XZs_n hz
  obtain ⟨b, hab, hsb, z⟩ := hz
  have hT := z.1.1.2.2.2.2.1
  have l16 := hT.1
  have hsk := sk_is T hal
  have hss : sk T (sk T a) = sk T a := sk_sk hal
  have hch : (ch T (sk T a) = (40 : Int32)) ↔ chB T (sk T a) 40 = true := ch_B hT (c := 40) (by omega)
  have en1 := pE_lt (T := T) (f := f + 1) (tag := 0) (a := a) (op := op) (by omega) hal
  unfold XBu at hb
  refine e_X2_part (r_X2_part_0 ⟨z.1.1.1.1, x_here (w0 := w) b w z.1 (fR_refl w) rfl (fun w1 f1 b1 r1 j1 => r_X2_part_4 ?_)⟩)
  rw [hsb] at r1 ⊢
  rw [hch]
  have q1 : xq w w1 := xq_f f1
  have z1 : XZ T (sk T a) w1 := ⟨r1, XC_q z.2 q1 hN⟩
  have o1 : xI w1 341 4 = nI op := by rw [j1 4 (by omega)]; exact ho
  have n1 : xN w1 = xN w := f1.1.1
  refine ⟨fun hc => ⟨r1.1.1.1, ?_⟩, fun hc => ⟨r1.1.1.1, (xB w1).1, (xB w1).2, ⟨Nat.le_refl _, Nat.le_refl _⟩, ?_⟩⟩
  rotate_left
  · have hc := Decidable.not_not.mp hc
    have e1 : pE T (f + 1) 0 a op = wiP T f 0 a op := by rw [pE_part, if_pos hc]
    rw [e1] at hne hb qe qo
    refine x_within f hs (k := 0) (by omega) rfl a op d (xSetB w1 ((xB w1).1, (xB w1).2)) _ _ ⟨sk T a, hsk.1, hss, z1⟩ o1 hop (by omega) hne ?_ (fun kd pl hr w2 f2 e2 s2 => qe kd pl hr _ (xq_trans q1 (w1 := w1) f2) e2 s2) (fun c p hr w2 o f2 z2 o2 v2 k2 => r_X2_part_14 ⟨⟨_, rfl, rfl⟩, ?_⟩)
    · show 30 * _ ≤ (xB w1).1 + 20 ∧ 4500 * _ ≤ (xB w1).2 + 100 * 20
      rw [b1]; exact hb
    · have fin : ∀ B, Q (some (.ref o)) (xSetB w2 B) := fun B => qo c p hr (xSetB w2 B) o (xq_trans q1 (w1 := w1) f2) z2 o2 (XVd_m v2 (by omega) (xsm_refl _ w2) (fun i hi => ⟨by have h1 : xN w1 ≤ i := hi.1; omega, hi.2⟩)) k2
      exact fin _
  refine x_here (w0 := w) (sk T a) w1 r1 f1 b1 (fun w2 f2 b2 r2 j2 => r_X2_part_19 ?_)
  rw [hss] at r2 ⊢
  have q2 : xq w w2 := xq_f f2
  have z2 : XZ T (sk T a) w2 := ⟨r2, XC_q z.2 q2 hN⟩
  have o2 : xI w2 341 4 = nI op := by rw [j2 4 (by omega)]; exact o1
  have n2 : xN w2 = xN w := f2.1.1
  have e1 : pE T (f + 1) 0 a op = if (hereB T a (wT 30) || hereB T a (wT 31)) = true then wiP T f (if hereB T a (wT 30) = true then 1 else 2) (sk T a + 3) op else atP T a := by rw [pE_part, if_neg hc]
  rw [e1] at hne hb qe qo en1
  rw [← b2] at hb
  refine x_diC hT (r_X2_part_22 ⟨fun y => ⟨r2.1.1.1, ?_⟩, fun y => ?_⟩)
  rotate_left
  · -- a number
    have hdi := bI_n0 y
    have h30 := here_dig (W := wT 30) hdi
    have h31 := here_dig (W := wT 31) hdi
    have e2 : atP T a = match numP T a 0 9999 with
        | .inl e => .inl e
        | .inr (v, e) => .inr ([1000 + v], e) := by
      unfold atP
      rw [here_dig hdi, here_dig hdi, here_dig hdi]; rfl
    rw [h30, h31] at hne hb qe qo en1
    have e3 : (if (false || false) = true then wiP T f (if false = true then 1 else 2) (sk T a + 3) op else atP T a) = atP T a := if_neg (by decide)
    rw [e3] at hne hb qe qo en1
    have n9 : xNf 9 ≤ 6 := by decide
    have kn : xk (fun _ => False) w2 (xNew1 w2 (10, 0) (xNf 9)) := xk_n1 (xk_refl _ w2) _ _
    have zn : XZ T (sk T a) (xNew1 w2 (10, 0) (xNf 9)) := XZ_k z2 kn (fun i hi => hi.elim)
    have sn : xS (xNew1 w2 (10, 0) (xNf 9)) (xN w2) = (10, 0) := n1_S0
    have qn : xq w (xNew1 w2 (10, 0) (xNf 9)) := xq_trans q2 (xq_k kn)
    have on : xI (xNew1 w2 (10, 0) (xNf 9)) 341 4 = nI op := by rw [(kn.2.2 341 (by omega) (fun z => z)).1]; exact o2
    refine ⟨⟨by omega, by omega⟩, zn.1.1.1.1, 0, 0, ⟨Nat.zero_le _, Nat.zero_le _⟩, x_number (w := xSetB (xNew1 w2 (10, 0) (xNf 9)) (0, 0)) (lo := 0) (hi := 9999) zn rfl rfl (by omega) (by omega) (fun kd pl hr w3 f3 e3 s3 => ?_) (fun v p hr w3 f3 z3 _ _ => r_X2_part_37 ?_)⟩
    · rw [numP_s hss] at hr
      exact qe kd pl (by rw [e2, hr]) _ (xq_trans qn (w1 := xNew1 w2 (10, 0) (xNf 9)) f3) e3 s3
    · rw [numP_s hss] at hr
      have f3 : fR (xNew1 w2 (10, 0) (xNf 9)) w3 := f3
      have z3 : XZ T p w3 := z3
      have hv := num_le hal hr
      have n3 : xN w3 = xN w2 + 1 := f3.1.1
      have s3 : xS w3 (xN w2) = (10, 0) := by rw [f3.1.2]; exact sn
      have o3 : xI w3 341 4 = nI op := by rw [f3.2.2 341 4 (by omega) (by omega)]; exact on
      have q3 : xq w w3 := xq_trans qn (xq_f f3)
      rw [jZ_n (n := v) (by omega)]
      have ku : xk (fun i => i = xN w2) w3 (xUpL w3 (xN w2) 0 (jZ v)) := ⟨Nat.le_refl _, fun _ _ => rfl, fun i hi hne => ⟨rfl, by funext j; exact if_neg (fun z => hne z.1), rfl⟩⟩
      have fin : ∀ B, Q (some (.ref (xN w2))) (xSetB (xUpL w3 (xN w2) 0 (jZ v)) B) := fun B => by
        refine qo [1000 + v] p (by rw [e2, hr]) (xSetB (xUpL w3 (xN w2) 0 (jZ v)) B) (xN w2) (xq_ke q3 ku (fun i hi => by omega)) (XZs_of (XZ_k z3 ku (fun i hi => by omega))) ?_ ?_ ⟨by show 8 ≤ (xS w3 (xN w2)).1; rw [s3]; omega, by show (xS w3 (xN w2)).1 ≤ 11; rw [s3]; omega⟩
        · exact o3
        · refine XVd_m (P := fun i => xN w ≤ i ∧ i < xN w3) (v_fixed (w := xUpL w3 (xN w2) 0 (jZ v)) (by show (xS w3 (xN w2)).1 = 10; rw [s3]) (if_pos ⟨rfl, rfl⟩) (by omega) ⟨by omega, by omega⟩ (by omega)) (Nat.zero_le _) (xsm_refl _ _) (fun i hi => hi)
      exact ⟨0, 0, ⟨Nat.zero_le _, Nat.zero_le _⟩, by show (xS w3 (xN w2)).1 = 10; rw [s3], e_X11_init (r_X11_init_0 ⟨0, 0, ⟨Nat.zero_le _, Nat.zero_le _⟩, by show (xS w3 (xN w2)).1 = 10; rw [s3], e_X8_init (r_X8_init_0 ⟨Nat.le_of_ble_eq_true rfl, r_X8_init_4 ⟨rfl, r_X11_init_4 ⟨by show (xS w3 (xN w2)).1 = 10; rw [s3], by omega, rfl, r_X2_part_41 ⟨⟨_, rfl, rfl⟩, fin _⟩⟩⟩⟩)⟩)⟩
  -- a word
  have hdi := bI_e0 y
  have nnum : ∀ v e, numP T a 0 9999 ≠ .inr (v, e) := fun v e h => by
    unfold numP at h
    have : (decide (sk T a < T.length) && isDi (T.getD (sk T a) 0) && !prt T (sk T a)) = false := by
      show (diB T (sk T a) && !prt T (sk T a)) = false
      rw [hdi]; rfl
    rw [this] at h
    have h : (.inl (1, sk T a) : Sum (Nat × Nat) (Nat × Nat)) = .inr (v, e) := h
    cases h
  have num1 : numP T a 0 9999 = .inl (1, sk T a) := by
    unfold numP
    have : (decide (sk T a < T.length) && isDi (T.getD (sk T a) 0) && !prt T (sk T a)) = false := by
      show (diB T (sk T a) && !prt T (sk T a)) = false
      rw [hdi]; rfl
    rw [this]; exact if_neg (by decide)
  have hwl := (spL_is T isLe (sk T a) hsk.2)
  have ewl : spL T isLe (sk T a) = wl T (sk T a) := rfl
  rw [ewl] at hwl
  have enw : wl T (sk T a) ≤ eN T (if (hereB T a (wT 30) || hereB T a (wT 31)) = true then wiP T f (if hereB T a (wT 30) = true then 1 else 2) (sk T a + 3) op else atP T a) := by
    refine eN_if (fun h3 => ?_) (fun _ => ?_)
    · have e3 : wl T (sk T a) = sk T a + 3 := by
        rw [Bool.or_eq_true] at h3
        rcases h3 with h3 | h3
        · exact (here_w (k := 30) (by omega) (by omega) hal h3).1
        · exact (here_w (k := 31) (by omega) (by omega) hal h3).1
      cases hw9 : wiP T f (if hereB T a (wT 30) = true then 1 else 2) (sk T a + 3) op with
      | inl e => show _ ≤ T.length + 1; omega
      | inr q => have := wi_ge hw9; show _ ≤ q.2; omega
    · cases ha9 : atP T a with
      | inl e => show _ ≤ T.length + 1; omega
      | inr q =>
        show _ ≤ q.2
        unfold atP at ha9
        split at ha9
        · rename_i g; rw [(here_w (k := 27) (by omega) (by omega) hal g).1]; cases ha9; exact Nat.le_refl _
        · split at ha9
          · rename_i g; rw [(here_w (k := 28) (by omega) (by omega) hal g).1]; cases ha9; exact Nat.le_refl _
          · split at ha9
            · rename_i g; rw [(here_w (k := 29) (by omega) (by omega) hal g).1]; cases ha9; exact Nat.le_refl _
            · rw [num1] at ha9; cases ha9
  have n10 : xNf 10 ≤ 6 := by decide
  obtain ⟨S, hS9⟩ : ∃ S, S = 2 * (wl T (sk T a) - sk T a) + 10 := ⟨_, rfl⟩
  have noW : isWd T (sk T a) = false → ∀ k, hereB T a (wT k) = false := fun h k => by unfold hereB; rw [h]; rfl
  refine ⟨3, S, ⟨by omega, by omega⟩, x_word (w := xSetB w2 (3, S)) r2 ⟨Nat.le_refl _, by rw [hss]; exact Nat.le_of_eq hS9.symm⟩ (fun hi w3 f3 e3 s3 => ?_) (fun hi w3 f3 n3 r3 fr3 op3 S3 _ => r_X2_part_46 ?_)⟩
  · rw [hss] at hi e3
    have e9 : (if (hereB T a (wT 30) || hereB T a (wT 31)) = true then wiP T f (if hereB T a (wT 30) = true then 1 else 2) (sk T a + 3) op else atP T a) = .inl (1, sk T a) := by
      rw [noW hi, noW hi, if_neg (by decide)]
      unfold atP
      rw [noW hi, noW hi, noW hi, num1]; rfl
    exact qe 1 (sk T a) e9 _ (xq_trans q2 (xq_f (w := w2) (w1 := w3) f3)) e3 s3
  rw [hss] at hi r3 fr3 S3
  have hN2 : 794 ≤ xN w2 := by omega
  have f3 : xq w2 w3 := f3
  have q3 : xq w w3 := xq_trans q2 f3
  have c3 := XC_q z.2 q3 hN
  have z3 : XZ T (wl T (sk T a)) w3 := ⟨r3, c3⟩
  have n3 : xN w3 = xN w2 + 3 := n3
  have S3 : XStr (wB T (sk T a)) (xN w2 + 1) w3 := S3
  have o3 : xI w3 341 4 = nI op := Eq.trans (b := xI w2 341 4) op3 o2
  have hh := fun k => here_is (T := T) (a := a) (k := k) hi
  refine x_find (w := xSetB w3 _) (S := wB T (sk T a)) (f := fun k => wT (27 + k)) S3 (by omega) (by omega) c3.2.1.1 (fun k hk => by
    have e := c3.2.1.2 k hk
    show XStr (wT (27 + k)) (xR w3 1 k) w3
    rw [e]; exact (c3.1 (27 + k) (by omega) (by omega)).1) (r_X2_part_54 ?_)
  have fk : ∀ k, decide (wT (27 + k) = wB T (sk T a)) = hereB T a (wT (27 + k)) := fun k => by rw [hh]; exact decide_eq_decide.mpr ⟨fun h => h.symm, fun h => h.symm⟩
  rw [show (fun k => decide (wT (27 + k) = wB T (sk T a))) = fun k => hereB T a (wT (27 + k)) from funext fk]
  rcases fstP_ex (f := fun k => hereB T a (wT (27 + k))) (n := 3) with ⟨g1, g2⟩ | ⟨k, g1, hk, g2, g3⟩
  · -- min, max or wrong
    rw [g1]
    have a27 : hereB T a (wT 27) = false := g2 0 (by omega)
    have a28 : hereB T a (wT 28) = false := g2 1 (by omega)
    have a29 : hereB T a (wT 29) = false := g2 2 (by omega)
    have ea : atP T a = .inl (1, sk T a) := by unfold atP; rw [a27, a28, a29, num1]; rfl
    have go : ∀ (k : Nat) (x : Int32), (k = 1 ∨ k = 2) → x = nI k → hereB T a (wT (29 + k)) = true → ∀ (R : Option Value → xw → Prop) (Rx : Nat → xw → Prop), (∀ q w9, (∀ B, Qx q (xSetB w9 B)) → Rx q w9) → (∀ o w9, (∀ B, Q (some (.ref o)) (xSetB w9 B)) → R (some (.ref o)) w9) → G2_E d 3 [.ref 341, .int x] (xSetB w3 ((xB w2).1 - 3, (xB w2).2 - S)) R Rx := by
      intro k x hk hx h9 R Rx hRx hR
      have e3 : wl T (sk T a) = sk T a + 3 := by
        rcases hk with g | g <;> subst g
        · exact (here_w (k := 30) (by omega) (by omega) hal h9).1
        · exact (here_w (k := 31) (by omega) (by omega) hal h9).1
      have e4 : (if (hereB T a (wT 30) || hereB T a (wT 31)) = true then wiP T f (if hereB T a (wT 30) = true then 1 else 2) (sk T a + 3) op else atP T a) = wiP T f k (sk T a + 3) op := by
        rcases hk with g | g <;> subst g
        · have h9 : hereB T a (wT 30) = true := h9
          rw [h9]; rfl
        · have h9 : hereB T a (wT 31) = true := h9
          have h8 := here_one (i := 31) (j := 30) (by omega) (by omega) (by omega) h9
          rw [h8, h9]; rfl
      rw [e4] at hne hb qe qo
      rw [e3] at z3
      refine x_within f hs (k := k) (by omega) hx (sk T a + 3) op d (xSetB w3 ((xB w2).1 - 3, (xB w2).2 - S)) _ _ (XZs_of z3) o3 hop (by omega) hne ?_ (fun kd pl hr w4 f4 e4 s4 => hRx _ _ (fun B => qe kd pl hr (xSetB w4 B) (xq_trans q3 (w1 := w3) f4) e4 s4)) (fun c p hr w4 o f4 z4 o4 v4 k4 => hR o w4 (fun B => qo c p hr (xSetB w4 B) o (xq_trans q3 (w1 := w3) f4) z4 o4 (XVd_m v4 (by omega) (xsm_refl _ w4) (fun i hi => ⟨by have h1 : xN w3 ≤ i := hi.1; omega, hi.2⟩)) k4))
      show 30 * _ ≤ (xB w2).1 - 3 + 20 ∧ 4500 * _ ≤ (xB w2).2 - S + 100 * 20
      omega
    have S3B : ∀ B, XStr (wB T (sk T a)) (xN w2 + 1) (xSetB w3 B) := fun _ => S3
    have K30 : ∀ B, XStr (wT 30) 30 (xSetB w3 B) := fun _ => (c3.1 30 (by omega) (by omega)).1
    have K31 : ∀ B, XStr (wT 31) 31 (xSetB w3 B) := fun _ => (c3.1 31 (by omega) (by omega)).1
    have big : 256 ≤ xN w2 + 1 := by omega
    refine ⟨fun _ => ⟨S3.1.1, x_eq (S3B _) (K30 _) (Or.inl big) (r_X2_part_76 ?_)⟩, fun z => absurd rfl z⟩
    rw [← hh 30]
    refine ⟨fun y => ⟨S3.1.1, x_eq (S3B _) (K30 _) (Or.inl big) (r_X2_part_107 ?_)⟩, fun y => ⟨S3.1.1, x_eq (S3B _) (K31 _) (Or.inl big) (r_X2_part_86 ?_)⟩⟩
    · rw [← hh 30]
      refine ⟨fun x => absurd x y, fun _ => ⟨r3.1.1.1, (xB w2).1 - 3, (xB w2).2 - S, ⟨Nat.le_refl _, Nat.le_refl _⟩, go 1 1 (Or.inl rfl) rfl (bI_n0 y) _ _ (fun q w9 h => h _) (fun o w9 h => r_X2_part_118 ⟨⟨_, rfl, rfl⟩, h _⟩)⟩⟩
    · have y := bI_nn0 y
      rw [← hh 31]
      refine ⟨fun x => ⟨S3.1.1, x_eq (S3B _) (K30 _) (Or.inl big) (r_X2_part_107 ?_)⟩, fun x => ⟨r3.1.1.1, r3.1.1.1, ?_⟩⟩
      · rw [← hh 30, y]
        exact ⟨fun _ => ⟨r3.1.1.1, (xB w2).1 - 3, (xB w2).2 - S, ⟨Nat.le_refl _, Nat.le_refl _⟩, go 2 2 (Or.inr rfl) rfl (bI_n0 x) _ _ (fun q w9 h => h _) (fun o w9 h => r_X2_part_118 ⟨⟨_, rfl, rfl⟩, h _⟩)⟩, fun z => absurd rfl z⟩
      · have x := bI_nn0 x
        have e9 : (if (hereB T a (wT 30) || hereB T a (wT 31)) = true then wiP T f (if hereB T a (wT 30) = true then 1 else 2) (sk T a + 3) op else atP T a) = .inl (1, sk T a) := by
          rw [y, x, if_neg (by decide)]; exact ea
        refine x_wrong (T := T) (kd := 1) (pl := sk T a) (by exact r3.1) rfl (by exact fr3) (fun w4 f4 b4 e4 s4 _ => ?_)
        exact r_X2_part_98 ⟨s4, qe 1 (sk T a) e9 w4 (xq_trans q3 (xq_f (w := w3) f4)) e4 s4⟩
  · -- across, down, edge
    rw [g1]
    have hk3 : k = 0 ∨ k = 1 ∨ k = 2 := by omega
    have e9 : (if (hereB T a (wT 30) || hereB T a (wT 31)) = true then wiP T f (if hereB T a (wT 30) = true then 1 else 2) (sk T a + 3) op else atP T a) = .inr ([7 + k], wl T (sk T a)) := by
      rw [here_one (i := 27 + k) (j := 30) (by omega) (by omega) (by omega) g2, here_one (i := 27 + k) (j := 31) (by omega) (by omega) (by omega) g2, if_neg (by decide)]
      unfold atP
      rcases hk3 with g | g | g <;> subst g
      · have g2 : hereB T a (wT 27) = true := g2
        rw [if_pos g2, (here_w (k := 27) (by omega) (by omega) hal g2).1]; rfl
      · have g2 : hereB T a (wT 28) = true := g2
        rw [here_one (i := 28) (j := 27) (by omega) (by omega) (by omega) g2, if_neg (by decide), if_pos g2, (here_w (k := 28) (by omega) (by omega) hal g2).1]; rfl
      · have g2 : hereB T a (wT 29) = true := g2
        rw [here_one (i := 29) (j := 27) (by omega) (by omega) (by omega) g2, here_one (i := 29) (j := 28) (by omega) (by omega) (by omega) g2, if_neg (by decide), if_neg (by decide), if_pos g2, (here_w (k := 29) (by omega) (by omega) hal g2).1]; rfl
    have hki : ¬ (fdI (some k) = -1) := fun z => by
      have : (nI k).toInt = -1 := by rw [show nI k = -1 from z]; decide
      rw [n_T (by omega)] at this; omega
    have kn : xk (fun _ => False) w3 (xNew1 w3 (11, 0) (xNf 10)) := xk_n1 (xk_refl _ w3) _ _
    have zn : XZ T (wl T (sk T a)) (xNew1 w3 (11, 0) (xNf 10)) := XZ_k z3 kn (fun i hi => hi.elim)
    have sn : xS (xNew1 w3 (11, 0) (xNf 10)) (xN w3) = (11, 0) := n1_S0
    have on : xI (xNew1 w3 (11, 0) (xNf 10)) 341 4 = nI op := by rw [(kn.2.2 341 (by omega) (fun z => z)).1]; exact o3
    have ku : xk (fun i => i = xN w3) (xNew1 w3 (11, 0) (xNf 10)) (xUpI (xNew1 w3 (11, 0) (xNf 10)) (xN w3) 0 (nI k)) := xk_uI (E := fun i => i = xN w3) (xk_refl _ _) (Or.inl rfl)
    have fin : ∀ B, Q (some (.ref (xN w3))) (xSetB (xUpI (xNew1 w3 (11, 0) (xNf 10)) (xN w3) 0 (nI k)) B) := fun B => by
      refine qo [7 + k] (wl T (sk T a)) e9 (xSetB (xUpI (xNew1 w3 (11, 0) (xNf 10)) (xN w3) 0 (nI k)) B) (xN w3) (xq_ke (xq_trans q3 (xq_k kn)) ku (fun i hi => by omega)) (XZs_of (XZ_k zn ku (fun i hi => by omega))) ?_ ?_ ⟨by show 8 ≤ (xS (xNew1 w3 (11, 0) (xNf 10)) (xN w3)).1; rw [sn]; omega, by show (xS (xNew1 w3 (11, 0) (xNf 10)) (xN w3)).1 ≤ 11; rw [sn]; omega⟩
      · show xI (xUpI (xNew1 w3 (11, 0) (xNf 10)) (xN w3) 0 (nI k)) 341 4 = _
        rw [x_uI, if_neg (by omega)]; exact on
      · refine XVd_m (P := fun i => xN w ≤ i ∧ i < xN w3 + 1) (v_asked (w := xUpI (xNew1 w3 (11, 0) (xNf 10)) (xN w3) 0 (nI k)) (by show (xS (xNew1 w3 (11, 0) (xNf 10)) (xN w3)).1 = 11; rw [sn]) (if_pos ⟨rfl, rfl⟩) hk ⟨by omega, by omega⟩ (by omega)) (Nat.zero_le _) (xsm_refl _ _) (fun i hi => hi)
    refine ⟨fun z => absurd z hki, fun _ => ⟨⟨by show 1 ≤ (xB w2).1 - 3; omega, by show xNf 10 ≤ (xB w2).2 - S; omega⟩, 0, 0, ⟨Nat.zero_le _, Nat.zero_le _⟩, by show (xS (xNew1 w3 (11, 0) (xNf 10)) (xN w3)).1 = 11; rw [sn], e_X12_init (r_X12_init_0 ⟨0, 0, ⟨Nat.zero_le _, Nat.zero_le _⟩, by show (xS (xNew1 w3 (11, 0) (xNf 10)) (xN w3)).1 = 11; rw [sn], e_X8_init (r_X8_init_0 ⟨Nat.le_of_ble_eq_true rfl, r_X8_init_4 ⟨rfl, r_X12_init_4 ⟨by show (xS (xNew1 w3 (11, 0) (xNf 10)) (xN w3)).1 = 11; rw [sn], by show 256 ≤ xN w3; omega, rfl, r_X2_part_68 ⟨⟨_, rfl, rfl⟩, fin _⟩⟩⟩⟩)⟩)⟩⟩
theorem x_all_sums (T : List Nat) (f : Nat) : SE T f 0 2 20 0 2 ∧ SE T f 1 1 10 1 3 ∧ SL_product T f ∧ SE T f 3 0 0 2 4 ∧ SL_sum T f := by
  induction f with
  | zero => exact ⟨fun a op d w Q Qx _ _ _ _ h => absurd rfl h, fun a op d w Q Qx _ _ _ _ h => absurd rfl h, fun a op d w0 w E L A D Q Qx _ _ _ _ _ _ _ _ _ _ _ h => absurd rfl h, fun a op d w Q Qx _ _ _ _ h => absurd rfl h, fun a op d w0 w E L A D Q Qx _ _ _ _ _ _ _ _ _ _ _ h => absurd rfl h⟩
  | succ f ih =>
    obtain ⟨h0, h1, h2, h3, h4⟩ := ih
    exact ⟨x_part f h3, ix_product f h0 h2, lx_product f h0 h2, ix_sum f h1 h4, lx_sum f h1 h4⟩
end
