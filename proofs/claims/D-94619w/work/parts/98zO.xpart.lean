/-! X: the Reader's within and part -/
section
variable {T : List Nat}
def wiP (T : List Nat) (f k a op : Nat) : PR := if chB T (sk T a) 40 = true then (if op = 6 then .inl (4, sk T a) else bnd (pE T f 3 (sk T a + 1) (op + 1)) (fun c1 a1 => if k = 0 then (if chB T (sk T a1) 41 = true then .inr (c1, sk T a1 + 1) else .inl (1, sk T a1)) else if chB T (sk T a1) 44 = true then bnd (pE T f 3 (sk T a1 + 1) (op + 1)) (fun c2 a2 => if chB T (sk T a2) 41 = true then .inr (c1 ++ c2 ++ [4 + k], sk T a2 + 1) else .inl (1, sk T a2)) else .inl (1, sk T a1))) else .inl (1, sk T a)
theorem eN_if {c : Prop} [Decidable c] {x y : PR} {m : Nat} (h1 : c → m ≤ eN T x) (h2 : ¬ c → m ≤ eN T y) : m ≤ eN T (if c then x else y) := by
  by_cases h : c
  · rw [if_pos h]; exact h1 h
  · rw [if_neg h]; exact h2 h
theorem x_mustZ {Q : Option Value → xw → Prop} {Qx : Nat → xw → Prop} {w : xw} {a c : Nat} {x : Int32} (h : XZs T a w) (hx : x = nI c) (hc : c < 256)
    (q0 : chB T (sk T a) c = false → ∀ w', xq w w' → XBad 1 (sk T a) w' → (xS w' 342).1 = 4 → Qx 342 w') (q1 : chB T (sk T a) c = true → ∀ w', xq w w' → XZ T (sk T a + 1) w' → xI w' 341 4 = xI w 341 4 → xk (fun i => i = 341 ∨ i = 342) w w' → Q none w') : V_X2_must [.ref 341, .int x] w Q Qx := by
  obtain ⟨b, hab, hsb, z⟩ := h
  refine x_must (c := c) z.1 hx hc (fun h1 w' f e s => ?_) (fun h1 w' f r j => ?_)
  · rw [hsb] at h1 e
    exact q0 h1 w' (xq_f f) e s
  · rw [hsb] at h1 r
    exact q1 h1 w' (xq_f f) ⟨r, XC_q z.2 (xq_f f) (XZ_n z)⟩ (j 4 (by omega)) (xk_q (xq_f f))
theorem xq_341 {w : xw} {j : Nat} {v : Int32} (hj : j = 2 ∨ j = 3 ∨ j = 4) : xq w (xUpI w 341 j v) := ⟨Nat.le_refl _, fun _ _ => ⟨rfl, rfl, rfl⟩, fun i k _ x y => by rw [x_uI, if_neg (by omega)]⟩
set_option maxHeartbeats 4000000 in
theorem x_within (f : Nat) (hs : SE T f 3 0 0 2 4) {k : Nat} {x : Int32} (hk : k ≤ 2) (hx : x = nI k) (a op d : Nat) (w : xw) (Q : Option Value → xw → Prop) (Qx : Nat → xw → Prop) (hz : XZs T a w) (ho : xI w 341 4 = nI op) (hop : op ≤ 6) (hd : 4 * (6 - op) + 1 ≤ d) (hne : wiP T f k a op ≠ .inl (0, 0)) (hb : XBu 20 (eN T (wiP T f k a op) - a) w) (qe : EQx (wiP T f k a op) w Qx) (qo : OQx T op (3 * (6 - op)) (wiP T f k a op) w Q) : G2_E d 3 [.ref 341, .int x] w Q Qx := by
  subst hx
  obtain ⟨d, rfl⟩ : ∃ n, d = n + 1 := ⟨d - 1, by omega⟩
  have hal := XZs_le hz
  have hN := XZs_n hz
  obtain ⟨b, hab, hsb, z⟩ := hz
  have hT := z.1.1.2.2.2.2.1
  have l16 := hT.1
  have hsk := sk_is T hal
  have hss : sk T (sk T a) = sk T a := sk_sk hal
  have hch : (ch T (sk T a) = (40 : Int32)) ↔ chB T (sk T a) 40 = true := ch_B hT (c := 40) (by omega)
  refine e_X2_within (r_X2_within_0 ⟨z.1.1.1.1, x_here (w0 := w) b w z.1 (fR_refl w) rfl (fun w1 f1 b1 r1 j1 => r_X2_within_4 ?_)⟩)
  rw [hsb] at r1 ⊢
  rw [hch]
  have q1 : xq w w1 := xq_f f1
  have z1 : XZ T (sk T a) w1 := ⟨r1, XC_q z.2 q1 hN⟩
  have o1 : xI w1 341 4 = nI op := by rw [j1 4 (by omega)]; exact ho
  have n1 : xN w1 = xN w := f1.1.1
  refine ⟨fun hc => ⟨r1.1.1.1, r1.1.1.1, 0, 0, ⟨Nat.zero_le _, Nat.zero_le _⟩, x_opens (w := xSetB w1 (0, 0)) z1 o1 hop r1.2.1 (fun h6 w2 f2 e2 s2 => ?_) (fun h6 w2 f2 z2 _ o2 _ => r_X2_within_27 ?_)⟩, fun hc => ⟨r1.1.1.1, r1.1.1.1, x_wrong r1.1 (kd := 1) rfl r1.2.1 (fun w2 f2 b2 e2 s2 _ => r_X2_within_18 ⟨s2, qe 1 (sk T a) (by unfold wiP; rw [if_neg hc]) w2 (xq_trans q1 (xq_f f2)) e2 s2⟩)⟩⟩
  · exact qe 4 (sk T a) (by unfold wiP; rw [if_pos hc, if_pos h6]) _ (xq_trans q1 (w1 := w1) f2) e2 s2
  have hlt := chB_lt hc
  have e1 : wiP T f k a op = bnd (pE T f 3 (sk T a + 1) (op + 1)) (fun c1 a1 => if k = 0 then (if chB T (sk T a1) 41 = true then .inr (c1, sk T a1 + 1) else .inl (1, sk T a1)) else if chB T (sk T a1) 44 = true then bnd (pE T f 3 (sk T a1 + 1) (op + 1)) (fun c2 a2 => if chB T (sk T a2) 41 = true then .inr (c1 ++ c2 ++ [4 + k], sk T a2 + 1) else .inl (1, sk T a2)) else .inl (1, sk T a1)) := by unfold wiP; rw [if_pos hc, if_neg h6]
  rw [e1] at hne hb qe qo
  have hne1 : pE T f 3 (sk T a + 1) (op + 1) ≠ .inl (0, 0) := fun z => hne (bnd_l z)
  have kl : ∀ c1 p1, p1 ≤ T.length → p1 ≤ eN T (if k = 0 then (if chB T (sk T p1) 41 = true then .inr (c1, sk T p1 + 1) else .inl (1, sk T p1)) else if chB T (sk T p1) 44 = true then bnd (pE T f 3 (sk T p1 + 1) (op + 1)) (fun c2 a2 => if chB T (sk T a2) 41 = true then .inr (c1 ++ c2 ++ [4 + k], sk T a2 + 1) else .inl (1, sk T a2)) else .inl (1, sk T p1)) := fun c1 p1 hp1 => by
    have g := sk_ge T p1
    refine eN_if (fun _ => eN_if (fun _ => ?_) (fun _ => ?_)) (fun _ => eN_if (fun y => ?_) (fun _ => ?_))
    · show p1 ≤ sk T p1 + 1; omega
    · show p1 ≤ T.length + 1; omega
    · have g2 := chB_lt y
      refine Nat.le_trans ?_ (Nat.le_trans (eN_pE (f := f) (tag := 3) (op := op + 1) (show sk T p1 + 1 ≤ T.length by omega)).1 (eN_bnd (fun c2 p2 hr => ?_)))
      · omega
      · have g3 := pE_le T f 3 _ _ c2 p2 (by omega) hr
        have g4 := sk_ge T p2
        refine eN_if (fun _ => ?_) (fun _ => ?_)
        · show p2 ≤ sk T p2 + 1; omega
        · show p2 ≤ T.length + 1; omega
    · show p1 ≤ T.length + 1; omega
  have en2 := eN_bnd (T := T) (r := pE T f 3 (sk T a + 1) (op + 1)) (k := fun c1 a1 => if k = 0 then (if chB T (sk T a1) 41 = true then .inr (c1, sk T a1 + 1) else .inl (1, sk T a1)) else if chB T (sk T a1) 44 = true then bnd (pE T f 3 (sk T a1 + 1) (op + 1)) (fun c2 a2 => if chB T (sk T a2) 41 = true then .inr (c1 ++ c2 ++ [4 + k], sk T a2 + 1) else .inl (1, sk T a2)) else .inl (1, sk T a1)) (fun c p hr => kl c p (pE_le T f 3 _ _ c p (by omega) hr))
  have en1 := pE_lt (T := T) (f := f) (tag := 3) (a := sk T a + 1) (op := op + 1) (by omega) (by omega)
  unfold XBu at hb
  rw [← b1] at hb
  have f2 : xq w1 w2 := f2
  have z2 : XZ T (sk T a) w2 := z2
  have at2 : xI w2 341 2 + 1 = nI (sk T a + 1) := by rw [z2.1.2.1]; exact n_add _ 1
  have at2B : ∀ b, xI (xSetB w2 b) 341 2 + 1 = nI (sk T a + 1) := fun _ => at2
  rw [at2B]
  have q3 : xq w2 (xUpI w2 341 2 (nI (sk T a + 1))) := xq_341 (Or.inl rfl)
  have z3 : XZ T (sk T a + 1) (xUpI w2 341 2 (nI (sk T a + 1))) := ⟨⟨XRt_q z2.1.1 q3, by rw [x_uI, if_pos ⟨rfl, rfl⟩], by omega⟩, XC_q z2.2 q3 (XZ_n z2)⟩
  have o3 : xI (xUpI w2 341 2 (nI (sk T a + 1))) 341 4 = nI (op + 1) := by rw [x_uI, if_neg (by omega)]; exact o2
  have q03 : xq w (xUpI w2 341 2 (nI (sk T a + 1))) := xq_trans q1 (xq_trans f2 q3)
  have n3 : xN (xUpI w2 341 2 (nI (sk T a + 1))) = xN w2 := rfl
  obtain ⟨C, hC9⟩ : ∃ C, C = 30 * (eN T (pE T f 3 (sk T a + 1) (op + 1)) - (sk T a + 1)) := ⟨_, rfl⟩
  obtain ⟨S, hS9⟩ : ∃ S, S = 4500 * (eN T (pE T f 3 (sk T a + 1) (op + 1)) - (sk T a + 1)) := ⟨_, rfl⟩
  refine ⟨z2.1.1.1.1, z2.1.1.1.1, by omega, z3.1.1.1.1, C, S, ⟨by show C ≤ (xB w1).1 - 0; omega, by show S ≤ (xB w1).2 - 0; omega⟩, hs (sk T a + 1) (op + 1) d (xSetB (xUpI (xSetB w2 _) 341 2 (nI (sk T a + 1))) (C, S)) _ _ (XZs_of z3) o3 (by omega) (by omega) hne1 ⟨by show 30 * _ ≤ C + 0; omega, by show 4500 * _ ≤ S + 100 * 0; omega⟩ (fun kd pl hr w4 f4 e4 s4 => qe kd pl (bnd_l hr) _ (xq_trans q03 f4) e4 s4) (fun c p hr w4 o f4 z4 o4 v4 k4 => r_X2_within_41 ?_)⟩
  have f4 : xq (xUpI w2 341 2 (nI (sk T a + 1))) w4 := f4
  have q04 : xq w w4 := xq_trans q03 f4
  have z4 : XZs T p w4 := z4
  have o4 : xI w4 341 4 = nI (op + 1) := o4
  have nn4 : xN w2 ≤ xN w4 := f4.1
  have nn2 : xN w1 ≤ xN w2 := f2.1
  have v4 : XVd (3 * (6 - (op + 1)) + 2) (fun i => xN w2 ≤ i ∧ i < xN w4) c o w4 := v4
  have hpl := pE_le T f 3 _ _ c p (by omega) hr
  have en4 : eN T (pE T f 3 (sk T a + 1) (op + 1)) = p := by rw [hr]; rfl
  rw [bnd_r hr] at hne hb qe qo
  rw [en4] at hC9 hS9 en1
  have kl1 := kl c p hpl
  have s3 : (xS w4 341).1 = 3 := by obtain ⟨b, _, _, z⟩ := z4; exact z.1.1.1.1
  have m1 : nI (op + 1) - 1 = nI op := n_sub (a := op + 1) (b := 1) (by omega)
  rw [show (nI k ≤ (0 : Int32)) ↔ k ≤ 0 from n_le (b := 0) (by omega) (by omega)]
  refine ⟨fun k0 => ⟨s3, 0, 0, ⟨Nat.zero_le _, Nat.zero_le _⟩, x_mustZ (w := xSetB (xSetB w4 _) (0, 0)) z4 (c := 41) rfl (by omega) (fun h1 w5 f5 e5 s5 => ?_) (fun h1 w5 f5 z5 o5 k5 => r_X2_within_83 ?_)⟩, fun k0 => ⟨s3, 0, 0, ⟨Nat.zero_le _, Nat.zero_le _⟩, x_mustZ (w := xSetB (xSetB w4 _) (0, 0)) z4 (c := 44) rfl (by omega) (fun h1 w5 f5 e5 s5 => ?_) (fun h1 w5 f5 z5 o5 k5 => r_X2_within_54 ?_)⟩⟩
  · exact qe 1 (sk T p) (by rw [if_pos (by omega), if_neg (by rw [h1]; decide)]) _ (xq_trans q04 (w1 := w4) f5) e5 s5
  · have k5 : xk (fun i => i = 341 ∨ i = 342) w4 w5 := k5
    have o5 : xI w5 341 4 = nI (op + 1) := o5.trans o4
    have o5B : ∀ b, xI (xSetB w5 b) 341 4 - 1 = nI op := fun _ => by show xI w5 341 4 - 1 = _; rw [o5]; exact m1
    have z5 : XZ T (sk T p + 1) w5 := z5
    rw [o5B]
    have q6 : xq w5 (xUpI w5 341 4 (nI op)) := xq_341 (Or.inr (Or.inr rfl))
    have fin : ∀ B, Q (some (.ref o)) (xUpI (xSetB w5 B) 341 4 (nI op)) := fun B => by
      refine qo c (sk T p + 1) (by rw [if_pos (by omega), if_pos h1]) (xUpI (xSetB w5 B) 341 4 (nI op)) o (xq_trans q04 (xq_trans (w1 := w5) f5 q6)) (XZs_of (XZ_q z5 q6 (by rw [x_uI, if_neg (by omega)]; rfl))) (by rw [x_uI, if_pos ⟨rfl, rfl⟩]) ?_ ?_
      · show XVd (3 * (6 - op)) (fun i => xN w ≤ i ∧ i < xN (xUpI w5 341 4 (nI op))) c o (xUpI w5 341 4 (nI op))
        refine XVd_m (d1 := 3 * (6 - op)) (w1 := xUpI w5 341 4 (nI op)) v4 (by omega) (xsm_k (xk_trans k5 (xk_q q6)) (fun i hi => ?_)) (fun i hi => ?_)
        · have h1 : xN w2 ≤ i := hi.1
          have h2 : i < xN w4 := hi.2
          omega
        · have h1 : xN w2 ≤ i := hi.1
          have h2 : i < xN w4 := hi.2
          have h3 : xN w4 ≤ xN w5 := k5.1
          exact ⟨by omega, by show i < xN w5; omega⟩
      · have ov : o < xN w4 := v4.2.1.1.2
        show 8 ≤ (xS w5 o).1 ∧ (xS w5 o).1 ≤ 11
        rw [k5.2.1 o ov]; exact k4
    exact ⟨z5.1.1.1.1, z5.1.1.1.1, by omega, ⟨_, rfl, rfl⟩, fin _⟩
  · exact qe 1 (sk T p) (by rw [if_neg (by omega), if_neg (by rw [h1]; decide)]) _ (xq_trans q04 (w1 := w4) f5) e5 s5
  -- the second sum
  have hlt5 := chB_lt h1
  rw [if_neg (by omega), if_pos h1] at hne hb qe qo kl1
  have f5 : xq w4 w5 := f5
  have k5 : xk (fun i => i = 341 ∨ i = 342) w4 w5 := k5
  have z5 : XZ T (sk T p + 1) w5 := z5
  have o5 : xI w5 341 4 = nI (op + 1) := o5.trans o4
  have hne2 : pE T f 3 (sk T p + 1) (op + 1) ≠ .inl (0, 0) := fun z => hne (bnd_l z)
  have hskp := sk_ge T p
  have en5 := pE_lt (T := T) (f := f) (tag := 3) (a := sk T p + 1) (op := op + 1) (by omega) (by omega)
  have en6 := eN_bnd (T := T) (r := pE T f 3 (sk T p + 1) (op + 1)) (k := fun c2 a2 => if chB T (sk T a2) 41 = true then .inr (c ++ c2 ++ [4 + k], sk T a2 + 1) else .inl (1, sk T a2)) (fun c2 p2 hr2 => by
    have g3 := pE_le T f 3 _ _ c2 p2 (by omega) hr2
    have g4 := sk_ge T p2
    refine eN_if (fun _ => ?_) (fun _ => ?_)
    · show p2 ≤ sk T p2 + 1; omega
    · show p2 ≤ T.length + 1; omega)
  have n8 : xNf 8 ≤ 6 := by decide
  have kn : xk (fun _ => False) w5 (xNew1 w5 (9, 0) (xNf 8)) := xk_n1 (xk_refl _ w5) _ _
  have q6 : xq w5 (xNew1 w5 (9, 0) (xNf 8)) := xq_k kn
  have z6 : XZ T (sk T p + 1) (xNew1 w5 (9, 0) (xNf 8)) := XZ_k z5 kn (fun i hi => hi.elim)
  have o6 : xI (xNew1 w5 (9, 0) (xNf 8)) 341 4 = nI (op + 1) := by rw [(kn.2.2 341 (by have := XZ_n z5; omega) (fun z => z)).1]; exact o5
  have s6 : xS (xNew1 w5 (9, 0) (xNf 8)) (xN w5) = (9, 0) := n1_S0
  obtain ⟨C2, hC2⟩ : ∃ C, C = 30 * (eN T (pE T f 3 (sk T p + 1) (op + 1)) - (sk T p + 1)) := ⟨_, rfl⟩
  obtain ⟨S2, hS2⟩ : ∃ S, S = 4500 * (eN T (pE T f 3 (sk T p + 1) (op + 1)) - (sk T p + 1)) := ⟨_, rfl⟩
  have n5 : xN w4 ≤ xN w5 := k5.1
  have q06 : xq w (xNew1 w5 (9, 0) (xNf 8)) := xq_trans q04 (xq_trans f5 q6)
  -- behind the second sum
  have rest : ∀ (fl' : Nat) (x9 : Int32), x9 = nI fl' → fl' = 4 + k - 5 → ∀ c2 p2, pE T f 3 (sk T p + 1) (op + 1) = .inr (c2, p2) → ∀ w7 o2, xq (xNew1 w5 (9, 0) (xNf 8)) w7 → XZs T p2 w7 → xI w7 341 4 = nI (op + 1) → XVd (3 * (6 - (op + 1)) + 2) (fun i => xN w5 + 1 ≤ i ∧ i < xN w7) c2 o2 w7 → xCv w7 o2 → ∀ (B9 : Nat × Nat) {u1 u2 u3 : Option Value}, T_X2_within d Qx Q 73 [some (.ref 341), u1, u2, u3] [.ref o2, .ref o, .int x9, .ref (xN w5), .ref (xN w5)] (xSetB w7 B9) := by
    intro fl' x9 hx9 hfl c2 p2 hr2 w7 o2 f7 z7 o7 v7 k7 B9 u1 u2 u3
    subst hx9
    have k67 := xk_q f7
    have nn7 : xN w5 + 1 ≤ xN w7 := f7.1
    have s7 : xS w7 (xN w5) = (9, 0) := by rw [k67.2.1 (xN w5) (by show xN w5 < xN w5 + 1; omega)]; exact s6
    have hN5 := XZ_n z5
    have ov : o < xN w4 := v4.2.1.1.2
    have ov0 : o ≠ 0 := v4.2.1.2
    have ov2 : o2 ≠ 0 := v7.2.1.2
    refine r_X2_within_73 ⟨0, 0, ⟨Nat.zero_le _, Nat.zero_le _⟩, by show (xS w7 (xN w5)).1 = 9; rw [s7], e_X10_init (r_X10_init_0 ⟨0, 0, ⟨Nat.zero_le _, Nat.zero_le _⟩, by show (xS w7 (xN w5)).1 = 9; rw [s7], e_X8_init (r_X8_init_0 ⟨Nat.le_of_ble_eq_true rfl, r_X8_init_4 ⟨rfl, r_X10_init_4 ⟨by show (xS w7 (xN w5)).1 = 9; rw [s7], by omega, ?_, by show (xS w7 (xN w5)).1 = 9; rw [s7], by omega, ov0, by show (xS w7 (xN w5)).1 = 9; rw [s7], by omega, ov2, rfl, r_X2_within_76 ?_⟩⟩⟩)⟩)⟩
    · have : fl' = 0 ∨ fl' = 1 := by omega
      rcases this with g | g <;> rw [g] <;> exact ⟨rfl, rfl⟩
    obtain ⟨w8, hw8⟩ : ∃ w8, w8 = xUpR (xUpR (xUpI w7 (xN w5) 0 (nI fl')) (xN w5) 1 o) (xN w5) 2 o2 := ⟨_, rfl⟩
    have k78 : xk (fun i => i = xN w5) w7 w8 := by rw [hw8]; exact xk_uR (E := fun i => i = xN w5) (xk_uR (E := fun i => i = xN w5) (xk_uI (E := fun i => i = xN w5) (xk_refl _ w7) (Or.inl rfl)) (Or.inl rfl)) (Or.inl rfl)
    have n8 : xN w8 = xN w7 := by rw [hw8]; rfl
    have z8 : XZs T p2 w8 := XZs_k z7 k78 (fun i hi => by omega)
    have o8 : xI w8 341 4 = nI (op + 1) := by rw [(k78.2.2 341 (by omega) (by omega)).1]; exact o7
    have i8 : xI w8 (xN w5) 0 = nI fl' := by rw [hw8]; exact if_pos ⟨rfl, rfl⟩
    have r81 : xR w8 (xN w5) 1 = o := by rw [hw8, x_uRR, if_neg (by omega), x_uRR, if_pos ⟨rfl, rfl⟩]
    have r82 : xR w8 (xN w5) 2 = o2 := by rw [hw8, x_uRR, if_pos ⟨rfl, rfl⟩]
    have q08 : xq w w8 := xq_ke (xq_trans q06 f7) k78 (fun i hi => by omega)
    have s38 : (xS w8 341).1 = 3 := by obtain ⟨b, _, _, z⟩ := z8; exact z.1.1.1.1
    refine ⟨by rw [hw8] at s38; exact s38, 0, 0, ⟨Nat.zero_le _, Nat.zero_le _⟩, x_mustZ (T := T) (a := p2) (c := 41) (by rw [hw8] at z8; exact z8) rfl (by omega) (fun h9 w9 f9 e9 s9 => ?_) (fun h9 w9 f9 z9 o9 k9 => r_X2_within_83 ?_)⟩
    · have f9 : xq w8 w9 := by rw [hw8]; exact f9
      exact qe 1 (sk T p2) (by rw [bnd_r hr2, if_neg (by rw [h9]; decide)]) _ (xq_trans q08 f9) e9 s9
    · have f9 : xq w8 w9 := by rw [hw8]; exact f9
      have k9 : xk (fun i => i = 341 ∨ i = 342) w8 w9 := by rw [hw8]; exact k9
      have o9 : xI w9 341 4 = nI (op + 1) := by
        rw [hw8] at o8
        exact o9.trans o8
      have o9B : ∀ b, xI (xSetB w9 b) 341 4 - 1 = nI op := fun _ => by show xI w9 341 4 - 1 = _; rw [o9]; exact m1
      have z9 : XZ T (sk T p2 + 1) w9 := z9
      rw [o9B]
      have q10 : xq w9 (xUpI w9 341 4 (nI op)) := xq_341 (Or.inr (Or.inr rfl))
      have k810 : xk (fun i => i = 341 ∨ i = 342) w8 (xUpI w9 341 4 (nI op)) := xk_trans k9 (xk_q q10)
      have nn9 : xN w8 ≤ xN w9 := k9.1
      have s10 : (xS (xUpI w9 341 4 (nI op)) (xN w5)).1 = 9 := by
        rw [k810.2.1 (xN w5) (by omega), k78.2.1 (xN w5) (by omega), s7]
      have e10 := k810.2.2 (xN w5) (by omega) (by omega)
      have k410 : xk (fun i => i = 341 ∨ i = 342 ∨ i = xN w5) w4 (xUpI w9 341 4 (nI op)) := xk_trans (xk_wk k5 (fun i _ hi => by omega)) (xk_trans (xk_wk kn (fun i _ hi => hi.elim)) (xk_trans (xk_wk k67 (fun i _ hi => by omega)) (xk_trans (xk_wk k78 (fun i _ hi => by omega)) (xk_wk k810 (fun i _ hi => by omega)))))
      have k710 : xk (fun i => i = 341 ∨ i = 342 ∨ i = xN w5) w7 (xUpI w9 341 4 (nI op)) := xk_trans (xk_wk k78 (fun i _ hi => by omega)) (xk_wk k810 (fun i _ hi => by omega))
      have fin : ∀ B, Q (some (.ref (xN w5))) (xUpI (xSetB w9 B) 341 4 (nI op)) := fun B => by
        refine qo (c ++ c2 ++ [4 + k]) (sk T p2 + 1) (by rw [bnd_r hr2, if_pos h9]) (xUpI (xSetB w9 B) 341 4 (nI op)) (xN w5) (xq_trans q08 (xq_trans (w1 := w9) f9 q10)) (XZs_of (XZ_q z9 q10 (by rw [x_uI, if_neg (by omega)]; rfl))) (by rw [x_uI, if_pos ⟨rfl, rfl⟩]) ?_ ⟨by show 8 ≤ (xS (xUpI w9 341 4 (nI op)) (xN w5)).1; rw [s10]; omega, by show (xS (xUpI w9 341 4 (nI op)) (xN w5)).1 ≤ 11; rw [s10]; omega⟩
        show XVd (3 * (6 - op)) (fun i => xN w ≤ i ∧ i < xN (xUpI w9 341 4 (nI op))) (c ++ c2 ++ [4 + k]) (xN w5) (xUpI w9 341 4 (nI op))
        have hdv : 3 * (6 - op) = (3 * (6 - (op + 1)) + 2) + 1 := by omega
        rw [hdv]
        refine v_pair (o1 := o) (o2 := o2) (P := fun i => xN w ≤ i ∧ i < xN (xUpI w9 341 4 (nI op))) s10 (by omega) (by rw [e10.1, i8, hfl]) (by rw [e10.2.2]; exact r81) (by rw [e10.2.2]; exact r82) ⟨by omega, by show xN w5 < xN w9; omega⟩ (by omega) ?_ ?_
        · refine XVd_m v4 (Nat.le_refl _) (xsm_k k410 (fun i hi => ?_)) (fun i hi => ?_)
          · have h1 : xN w2 ≤ i := hi.1
            have h2 : i < xN w4 := hi.2
            omega
          · have h1 : xN w2 ≤ i := hi.1
            have h2 : i < xN w4 := hi.2
            exact ⟨by omega, by show i < xN w9; omega⟩
        · refine XVd_m v7 (Nat.le_refl _) (xsm_k k710 (fun i hi => ?_)) (fun i hi => ?_)
          · have h1 : xN w5 + 1 ≤ i := hi.1
            have h2 : i < xN w7 := hi.2
            omega
          · have h1 : xN w5 + 1 ≤ i := hi.1
            have h2 : i < xN w7 := hi.2
            exact ⟨by omega, by show i < xN w9; omega⟩
      exact ⟨z9.1.1.1.1, z9.1.1.1.1, by omega, ⟨_, rfl, rfl⟩, fin _⟩
  have bud : (1 ≤ (xB w1).1 - 0 - C - 0 ∧ xNf 8 ≤ (xB w1).2 - 0 - S - 0) ∧ (C2 ≤ (xB w1).1 - 0 - C - 0 - 1 ∧ S2 ≤ (xB w1).2 - 0 - S - 0 - xNf 8) := by omega
  rw [show (nI k = (2 : Int32)) ↔ k = 2 from n_eq (b := 2) (by omega) (by omega)]
  refine ⟨bud.1, fun kk => ⟨z6.1.1.1.1, C2, S2, bud.2, hs (sk T p + 1) (op + 1) d (xSetB (xNew1 (xSetB w5 _) (9, 0) (xNf 8)) (C2, S2)) _ _ (XZs_of z6) o6 (by omega) (by omega) hne2 ⟨by show 30 * _ ≤ C2 + 0; omega, by show 4500 * _ ≤ S2 + 100 * 0; omega⟩ (fun kd pl hr2 w7 f7 e7 s7 => qe kd pl (bnd_l hr2) _ (xq_trans q06 f7) e7 s7) (fun c2 p2 hr2 w7 o2 f7 z7 o7 v7 k7 => rest 0 0 rfl (by omega) c2 p2 hr2 w7 o2 f7 z7 o7 v7 k7 _)⟩, fun kk => ⟨z6.1.1.1.1, C2, S2, bud.2, hs (sk T p + 1) (op + 1) d (xSetB (xNew1 (xSetB w5 _) (9, 0) (xNf 8)) (C2, S2)) _ _ (XZs_of z6) o6 (by omega) (by omega) hne2 ⟨by show 30 * _ ≤ C2 + 0; omega, by show 4500 * _ ≤ S2 + 100 * 0; omega⟩ (fun kd pl hr2 w7 f7 e7 s7 => qe kd pl (bnd_l hr2) _ (xq_trans q06 f7) e7 s7) (fun c2 p2 hr2 w7 o2 f7 z7 o7 v7 k7 => rest 1 1 rfl (by omega) c2 p2 hr2 w7 o2 f7 z7 o7 v7 k7 _)⟩⟩
end
