/-! X: the Reader's fact -/
section
variable {T : List Nat}
theorem tri {A B C P R : Prop} (h : A ∨ B ∨ C) (p : P) : (A → P) ∧ (¬ A → ((B → P) ∧ (¬ B → ((C → P) ∧ (¬ C → R))))) :=
  ⟨fun _ => p, fun a => ⟨fun _ => p, fun b => ⟨fun _ => p, fun c => by rcases h with z | z | z <;> contradiction⟩⟩⟩
theorem XZw_n {a : Nat} {w : xw} (h : XZw T a w) : 794 ≤ xN w := by
  obtain ⟨_, b, _, h3⟩ := h
  exact XZ_n h3
theorem eF_inl {op : Nat} {e : Nat × Nat} {r : PR} (h : r = .inl e) : eF T op r = T.length + 3 + 2 * (6 - op) := by rw [h]; rfl
set_option maxHeartbeats 4000000 in
theorem x_fact (F f : Nat) (hs3 : SX T F f 3 0 0 2 3) (hs0 : SX T F f 0 2 20 0 1) (hE : SE T F 3 0 0 2 4) : SX T F (f + 1) 0 2 20 0 1 := by
  intro a op d w Q Qx hz ho hop hd hne hb qe qo
  obtain ⟨d, rfl⟩ : ∃ n, d = n + 1 := ⟨d - 1, by omega⟩
  have hal := XZs_le hz
  have hN := XZs_n hz
  obtain ⟨b, hab, hsb, z⟩ := hz
  have hT := z.1.1.2.2.2.2.1
  have l16 := hT.1
  have hsk := sk_is T hal
  have hss : sk T (sk T a) = sk T a := sk_sk hal
  have hch : (ch T (sk T a) = (91 : Int32)) ↔ chB T (sk T a) 91 = true := ch_B hT (c := 91) (by omega)
  have ep : pT T F (f + 1) 0 a op = if chB T (sk T a) 91 = true then (if op = 6 then .inl (4, sk T a) else bnd (pT T F f 3 (sk T a + 1) (op + 1)) (fun c a1 => if chB T (sk T a1) 93 = true then .inr (c, sk T a1 + 1) else .inl (1, sk T a1)))
      else if hereB T a (wT 25) = true then (if op = 6 then .inl (4, sk T a) else bnd (pT T F f 0 (sk T a + 3) (op + 1)) (fun c a1 => .inr (c ++ [16], a1)))
      else cmP T F a op := rfl
  have elt := eF_lt (T := T) (F := F) (f := f + 1) (tag := 0) (a := a) (op := op) (by omega) hal
  refine e_X2_fact (r_X2_fact_0 ⟨z.1.1.1.1, x_here (w0 := w) b w z.1 (fR_refl w) rfl (fun w1 f1 b1 r1 j1 => r_X2_fact_4 ?_)⟩)
  rw [hsb] at r1 ⊢
  rw [hch]
  have q1 : xq w w1 := xq_f f1
  have z1 : XZ T (sk T a) w1 := ⟨r1, XC_q z.2 q1 hN⟩
  have o1 : xI w1 341 4 = nI op := by rw [j1 4 (by omega)]; exact ho
  have n1 : xN w1 = xN w := f1.1.1
  have hwl := (spL_is T isLe (sk T a) hsk.2)
  have ewl : spL T isLe (sk T a) = wl T (sk T a) := rfl
  rw [ewl] at hwl
  unfold XBw at hb
  rw [← b1] at hb
  have n12 : xNf 13 ≤ 6 ∧ xNf 14 ≤ 6 ∧ xNf 15 ≤ 6 := by decide
  have m1 : nI (op + 1) - 1 = nI op := n_sub (a := op + 1) (b := 1) (by omega)
  refine ⟨fun hc => ⟨r1.1.1.1, ?_⟩, fun hc => ⟨r1.1.1.1, r1.1.1.1, 0, 0, ⟨Nat.zero_le _, Nat.zero_le _⟩, x_opens (w := xSetB w1 (0, 0)) z1 o1 hop r1.2.1 (fun h6 w2 f2 e2 s2 => ?_) (fun h6 w2 f2 z2 _ o2 _ => r_X2_fact_17 ?_)⟩⟩
  rotate_left
  · have hc := Decidable.not_not.mp hc
    exact qe.1 4 (sk T a) (by rw [ep, if_pos hc, if_pos h6]) _ (xq_trans q1 (w1 := w1) f2) e2 s2
  · -- a test in brackets
    have hc := Decidable.not_not.mp hc
    have hlt := chB_lt hc
    have e1 : pT T F (f + 1) 0 a op = bnd (pT T F f 3 (sk T a + 1) (op + 1)) (fun c a1 => if chB T (sk T a1) 93 = true then .inr (c, sk T a1 + 1) else .inl (1, sk T a1)) := by rw [ep, if_pos hc, if_neg h6]
    rw [e1] at hne hb qe qo elt
    have hne1 : pT T F f 3 (sk T a + 1) (op + 1) ≠ .inl (0, 0) := fun z => hne (bnd_l z)
    have en1 := eF_lt (T := T) (F := F) (f := f) (tag := 3) (a := sk T a + 1) (op := op + 1) (by omega) (by omega)
    have en2 : eF T (op + 1) (pT T F f 3 (sk T a + 1) (op + 1)) + 1 ≤ eF T op (bnd (pT T F f 3 (sk T a + 1) (op + 1)) (fun c a1 => if chB T (sk T a1) 93 = true then .inr (c, sk T a1 + 1) else .inl (1, sk T a1))) := by
      cases hr : pT T F f 3 (sk T a + 1) (op + 1) with
      | inl e => show T.length + 3 + 2 * (6 - (op + 1)) + 1 ≤ T.length + 3 + 2 * (6 - op); omega
      | inr q =>
        show q.2 + 1 ≤ eF T op (if chB T (sk T q.2) 93 = true then .inr (q.1, sk T q.2 + 1) else .inl (1, sk T q.2))
        have g := sk_ge T q.2
        have g2 := (pT_le T F f 3 _ _ q.1 q.2 (by omega) hr).1
        refine eF_if (fun _ => ?_) (fun _ => ?_)
        · show q.2 + 1 ≤ sk T q.2 + 1; omega
        · show q.2 + 1 ≤ T.length + 3 + 2 * (6 - op); omega
    have f2 : xq w1 w2 := f2
    have z2 : XZ T (sk T a) w2 := z2
    have at2 : ∀ B, xI (xSetB w2 B) 341 2 + 1 = nI (sk T a + 1) := fun _ => by show xI w2 341 2 + 1 = _; rw [z2.1.2.1]; exact n_add _ 1
    rw [at2]
    have q3 : xq w2 (xUpI w2 341 2 (nI (sk T a + 1))) := xq_341 (Or.inl rfl)
    have z3 : XZ T (sk T a + 1) (xUpI w2 341 2 (nI (sk T a + 1))) := ⟨⟨XRt_q z2.1.1 q3, by rw [x_uI, if_pos ⟨rfl, rfl⟩], by omega⟩, XC_q z2.2 q3 (XZ_n z2)⟩
    have o3 : xI (xUpI w2 341 2 (nI (sk T a + 1))) 341 4 = nI (op + 1) := by rw [x_uI, if_neg (by omega)]; exact o2
    have q03 : xq w (xUpI w2 341 2 (nI (sk T a + 1))) := xq_trans q1 (xq_trans f2 q3)
    have nn2 : xN w1 ≤ xN w2 := f2.1
    have kE : eF T (op + 1) (pT T F f 3 (sk T a + 1) (op + 1)) - (sk T a + 1) + 2 ≤ eF T op (bnd (pT T F f 3 (sk T a + 1) (op + 1)) (fun c a1 => if chB T (sk T a1) 93 = true then .inr (c, sk T a1 + 1) else .inl (1, sk T a1))) - a := by omega
    obtain ⟨C, hC9⟩ : ∃ C, C = 60 * (eF T (op + 1) (pT T F f 3 (sk T a + 1) (op + 1)) - (sk T a + 1)) := ⟨_, rfl⟩
    obtain ⟨S, hS9⟩ : ∃ S, S = 5500 * (eF T (op + 1) (pT T F f 3 (sk T a + 1) (op + 1)) - (sk T a + 1)) := ⟨_, rfl⟩
    refine ⟨z2.1.1.1.1, z2.1.1.1.1, by omega, z3.1.1.1.1, C, S, ⟨by show C ≤ (xB w1).1 - 0; omega, by show S ≤ (xB w1).2 - 0; omega⟩, hs3 (sk T a + 1) (op + 1) d (xSetB (xUpI (xSetB w2 _) 341 2 (nI (sk T a + 1))) (C, S)) _ _ (XZs_of z3) o3 (by omega) (by omega) hne1 ⟨by show 60 * _ ≤ C + 0; omega, by show 5500 * _ ≤ S + 330 * 0; omega⟩ ⟨fun kd pl hr w4 f4 e4 s4 => qe.1 kd pl (bnd_l hr) _ (xq_trans q03 f4) e4 s4, fun c p hr hst w4 f4 e4 s4 => qe.1 1 (sk T p) (by rw [bnd_r hr, le_no hst.1 (by omega)]; rfl) _ (xq_trans q03 f4) e4 s4⟩ (fun c p hr w4 o f4 z4 o4 v4 k4 => r_X2_fact_31 ?_)⟩
    have f4 : xq (xUpI w2 341 2 (nI (sk T a + 1))) w4 := f4
    have q04 : xq w w4 := xq_trans q03 f4
    have z4 : XZw T p w4 := z4
    have o4 : xI w4 341 4 = nI (op + 1) := o4
    have nn4 : xN w2 ≤ xN w4 := f4.1
    have v4 : XTd (2 * (6 - (op + 1)) + 2) (fun i => xN w2 ≤ i ∧ i < xN w4) c o w4 := v4
    rw [bnd_r hr] at qe qo
    have s3 : (xS w4 341).1 = 3 := by obtain ⟨_, b, _, z⟩ := z4; exact z.1.1.1.1
    refine ⟨s3, 0, 0, ⟨Nat.zero_le _, Nat.zero_le _⟩, x_mustW (w := xSetB (xSetB w4 _) (0, 0)) z4 (c := 93) rfl (by omega) (fun h1 w5 f5 e5 s5 => ?_) (fun h1 w5 f5 z5 o5 k5 => r_X2_fact_38 ?_)⟩
    · exact qe.1 1 (sk T p) (by rw [if_neg (by rw [h1]; decide)]) _ (xq_trans q04 (w1 := w4) f5) e5 s5
    · have k5 : xk (fun i => i = 341 ∨ i = 342) w4 w5 := k5
      have o5 : xI w5 341 4 = nI (op + 1) := o5.trans o4
      have o5B : ∀ b, xI (xSetB w5 b) 341 4 - 1 = nI op := fun _ => by show xI w5 341 4 - 1 = _; rw [o5]; exact m1
      have z5 : XZ T (sk T p + 1) w5 := z5
      rw [o5B]
      have q6 : xq w5 (xUpI w5 341 4 (nI op)) := xq_341 (Or.inr (Or.inr rfl))
      have fin : ∀ B, Q (some (.ref o)) (xUpI (xSetB w5 B) 341 4 (nI op)) := fun B => by
        refine qo c (sk T p + 1) (by rw [if_pos h1]) (xUpI (xSetB w5 B) 341 4 (nI op)) o (xq_trans q04 (xq_trans (w1 := w5) f5 q6)) (XZw_s (XZs_of (XZ_q z5 q6 (by rw [x_uI, if_neg (by omega)]; rfl)))) (by rw [x_uI, if_pos ⟨rfl, rfl⟩]) ?_ ?_
        · show XTd (2 * (6 - op) + 0) (fun i => xN w ≤ i ∧ i < xN (xUpI w5 341 4 (nI op))) c o (xUpI w5 341 4 (nI op))
          refine XTd_m (d1 := 2 * (6 - op) + 0) (w1 := xUpI w5 341 4 (nI op)) v4 (by omega) (xsm_k (xk_trans k5 (xk_q q6)) (fun i hi => ?_)) (fun i hi => ?_)
          · have h1 : xN w2 ≤ i := hi.1
            have h2 : i < xN w4 := hi.2
            omega
          · have h1 : xN w2 ≤ i := hi.1
            have h2 : i < xN w4 := hi.2
            have h3 : xN w4 ≤ xN w5 := k5.1
            exact ⟨by omega, by show i < xN w5; omega⟩
        · have ov : o < xN w4 := v4.2.1.1.2
          show 13 ≤ (xS w5 o).1 ∧ (xS w5 o).1 ≤ 16
          rw [k5.2.1 o ov]; exact k4
      exact ⟨z5.1.1.1.1, z5.1.1.1.1, by omega, ⟨_, rfl, rfl⟩, fin _⟩
  -- not in brackets
  have e0 : pT T F (f + 1) 0 a op = if hereB T a (wT 25) = true then (if op = 6 then .inl (4, sk T a) else bnd (pT T F f 0 (sk T a + 3) (op + 1)) (fun c a1 => .inr (c ++ [16], a1))) else cmP T F a op := by rw [ep, if_neg hc]
  clear ep
  rw [e0] at hne hb qe qo elt
  clear e0
  have W2 : 2 * (wl T (sk T a) - sk T a) + 10 ≤ 3210 := by omega
  obtain ⟨S1, hS1⟩ : ∃ S, S = 2 * (wl T (sk T a) - sk T a) + 10 := ⟨_, rfl⟩
  -- a letter stuck to what stands ahead
  have bad : stk T a → (if hereB T a (wT 25) = true then (if op = 6 then .inl (4, sk T a) else bnd (pT T F f 0 (sk T a + 3) (op + 1)) (fun c a1 => .inr (c ++ [16], a1))) else cmP T F a op) = .inl (1, sk T a) := fun hst => by
    rw [stk_here hst, if_neg (by decide)] at hne ⊢
    unfold cmP at hne ⊢
    rw [stk_here hst, if_neg (by decide)] at hne ⊢
    exact bnd_l (pE_stk hst (fun z => hne (bnd_l z)))
  refine ⟨3, S1, ⟨by omega, by omega⟩, x_passes (w := xSetB w1 (3, S1)) (k := 25) z1 (by omega) (by omega) (fun _ => ⟨Nat.le_refl _, by rw [hss]; exact Nat.le_of_eq hS1.symm⟩) (fun hl1 hp1 w2 f2 e2 s2 => ?_) (fun hh hp w2 p f2 hp1 hp2 z2 o2 _ _ => r_X2_fact_57 ⟨fun _ => ⟨z2.1.1.1.1, ?_⟩, fun y => absurd rfl y⟩) (fun hh w2 f2 z2 fr2 o2 _ => r_X2_fact_57 ⟨fun y => absurd y (by decide), fun _ => ?_⟩)⟩
  · rw [hss] at hl1 hp1 e2
    exact qe.1 1 (sk T a) (bad ⟨hl1, hp1⟩) _ (xq_trans q1 (w1 := w1) f2) e2 s2
  rotate_left
  · -- not
    rw [hereB_s hss] at hh
    rw [hss] at z2 fr2
    have hw := here_w (k := 25) (by omega) (by omega) hal hh
    have ew : (wT 25).length = 3 := rfl
    rw [ew] at hw
    rw [hw.1] at z2
    have f2 : xq w1 w2 := f2
    have nn2 := f2.1
    have q2 : xq w w2 := xq_trans q1 f2
    have z2 : XZ T (sk T a + 3) w2 := z2
    have o2 : xI w2 341 4 = nI op := Eq.trans (b := xI w1 341 4) o2 o1
    rw [if_pos hh] at hne hb qe qo elt
    have frB : ∀ B, xI (xSetB w2 B) 341 3 = nI (sk T a) := fun _ => fr2
    rw [frB]
    refine ⟨z2.1.1.1.1, z2.1.1.1.1, 0, 0, ⟨Nat.zero_le _, Nat.zero_le _⟩, x_opens (w := xSetB (xSetB w2 _) (0, 0)) z2 o2 hop rfl (fun h6 w3 f3 e3 s3 => ?_) (fun h6 w3 f3 z3 _ o3 _ => r_X2_fact_68 ?_)⟩
    · exact qe.1 4 (sk T a) (by rw [if_pos h6]) _ (xq_trans q2 (w1 := w2) f3) e3 s3
    rw [if_neg h6] at hne hb qe qo elt
    have f3 : xq w2 w3 := f3
    have nn3 := f3.1
    have q3 : xq w w3 := xq_trans q2 f3
    have z3 : XZ T (sk T a + 3) w3 := z3
    have hne1 : pT T F f 0 (sk T a + 3) (op + 1) ≠ .inl (0, 0) := fun z => hne (bnd_l z)
    have en1 := eF_lt (T := T) (F := F) (f := f) (tag := 0) (a := sk T a + 3) (op := op + 1) (by omega) (by omega)
    have en2 : eF T (op + 1) (pT T F f 0 (sk T a + 3) (op + 1)) ≤ eF T op (bnd (pT T F f 0 (sk T a + 3) (op + 1)) (fun c a1 => .inr (c ++ [16], a1))) := by
      cases hr : pT T F f 0 (sk T a + 3) (op + 1) with
      | inl e => show T.length + 3 + 2 * (6 - (op + 1)) ≤ T.length + 3 + 2 * (6 - op); omega
      | inr q => exact Nat.le_refl _
    have kn : xk (fun _ => False) w3 (xNew1 w3 (14, 0) (xNf 13)) := xk_n1 (xk_refl _ w3) _ _
    have z4 : XZ T (sk T a + 3) (xNew1 w3 (14, 0) (xNf 13)) := XZ_k z3 kn (fun i hi => hi.elim)
    have s4 : xS (xNew1 w3 (14, 0) (xNf 13)) (xN w3) = (14, 0) := n1_S0
    have hN3 := XZ_n z3
    have o4 : xI (xNew1 w3 (14, 0) (xNf 13)) 341 4 = nI (op + 1) := by rw [(kn.2.2 341 (by omega) (fun z => z)).1]; exact o3
    have q4 : xq w (xNew1 w3 (14, 0) (xNf 13)) := xq_trans q3 (xq_k kn)
    obtain ⟨C, hC9⟩ : ∃ C, C = 60 * (eF T (op + 1) (pT T F f 0 (sk T a + 3) (op + 1)) - (sk T a + 3)) - 20 := ⟨_, rfl⟩
    obtain ⟨S, hS9⟩ : ∃ S, S = 5500 * (eF T (op + 1) (pT T F f 0 (sk T a + 3) (op + 1)) - (sk T a + 3)) - 330 * 20 := ⟨_, rfl⟩
    refine ⟨⟨by show 1 ≤ (xB w1).1 - 3 - 0; omega, by show xNf 13 ≤ (xB w1).2 - S1 - 0; omega⟩, z4.1.1.1.1, C, S, ⟨by show C ≤ (xB w1).1 - 3 - 0 - 1; omega, by show S ≤ (xB w1).2 - S1 - 0 - xNf 13; omega⟩, hs0 (sk T a + 3) (op + 1) d (xSetB (xNew1 (xSetB w3 _) (14, 0) (xNf 13)) (C, S)) _ _ (XZs_of z4) o4 (by omega) (by omega) hne1 ⟨by show 60 * _ ≤ C + 20; omega, by show 5500 * _ ≤ S + 330 * 20; omega⟩ ⟨fun kd pl hr w5 f5 e5 s5 => qe.1 kd pl (bnd_l hr) _ (xq_trans q4 f5) e5 s5, fun c p hr hst w5 f5 e5 s5 => qe.2 (c ++ [16]) p (by rw [bnd_r hr]) hst _ (xq_trans q4 f5) e5 s5⟩ (fun c p hr w5 o f5 z5 o5 v5 k5 => r_X2_fact_76 ?_)⟩
    have f5 : xq (xNew1 w3 (14, 0) (xNf 13)) w5 := f5
    have nn5 : xN w3 + 1 ≤ xN w5 := f5.1
    have q5 : xq w w5 := xq_trans q4 f5
    have z5 : XZw T p w5 := z5
    have o5 : xI w5 341 4 = nI (op + 1) := o5
    have v5 : XTd (2 * (6 - (op + 1)) + 0) (fun i => xN w3 + 1 ≤ i ∧ i < xN w5) c o w5 := v5
    have s5 : (xS w5 (xN w3)).1 = 14 := by rw [(xk_q f5).2.1 (xN w3) (by show xN w3 < xN w3 + 1; omega), s4]
    rw [bnd_r hr] at qo
    have ov0 : o ≠ 0 := v5.2.1.2
    have s341 : (xS w5 341).1 = 3 := by obtain ⟨_, b, _, z⟩ := z5; exact z.1.1.1.1
    have ku : xk (fun i => i = xN w3) w5 (xUpR w5 (xN w3) 0 o) := xk_uR (E := fun i => i = xN w3) (xk_refl _ _) (Or.inl rfl)
    have z6 : XZw T p (xUpR w5 (xN w3) 0 o) := XZw_k z5 ku (fun i hi => by omega)
    have o6 : ∀ B, xI (xSetB (xUpR w5 (xN w3) 0 o) B) 341 4 - 1 = nI op := fun _ => by show xI w5 341 4 - 1 = _; rw [o5]; exact m1
    have q6 : xq (xUpR w5 (xN w3) 0 o) (xUpI (xUpR w5 (xN w3) 0 o) 341 4 (nI op)) := xq_341 (Or.inr (Or.inr rfl))
    have fin : ∀ B, Q (some (.ref (xN w3))) (xUpI (xSetB (xUpR w5 (xN w3) 0 o) B) 341 4 (nI op)) := fun B => by
      refine qo (c ++ [16]) p rfl (xUpI (xSetB (xUpR w5 (xN w3) 0 o) B) 341 4 (nI op)) (xN w3) (xq_trans (xq_ke q5 ku (fun i hi => by omega)) q6) ?_ (by rw [x_uI, if_pos ⟨rfl, rfl⟩]) ?_ ?_
      · obtain ⟨h0, b, h2, h3⟩ := z6
        exact ⟨h0, b, h2, XZ_q h3 q6 (by rw [x_uI, if_neg (by omega)]; rfl)⟩
      · refine XTd_m (d := 2 * (6 - (op + 1)) + 0 + 1) (P := fun i => xN w ≤ i ∧ i < xN w5) (w := xUpR w5 (xN w3) 0 o) (t_not (o1 := o) (by show (xS w5 (xN w3)).1 = 14; exact s5) (by rw [x_uRR, if_pos ⟨rfl, rfl⟩]) ⟨by omega, by omega⟩ (by omega) (XTd_m v5 (Nat.le_refl _) (xsm_k ku (fun i hi => by have h1 : xN w3 + 1 ≤ i := hi.1; have h2 : i < xN w5 := hi.2; omega)) (fun i hi => by have h1 : xN w3 + 1 ≤ i := hi.1; have h2 : i < xN w5 := hi.2; exact ⟨by omega, by omega⟩))) (by omega) (xsm_k (xk_q q6) (fun i hi => by have h1 : xN w ≤ i := hi.1; have h2 : i < xN w5 := hi.2; exact ⟨h2, by omega⟩)) (fun i hi => hi)
      · show 13 ≤ (xS w5 (xN w3)).1 ∧ (xS w5 (xN w3)).1 ≤ 16
        rw [s5]; omega
    refine ⟨0, 0, ⟨Nat.zero_le _, Nat.zero_le _⟩, s5, e_X16_init (r_X16_init_0 ⟨0, 0, ⟨Nat.zero_le _, Nat.zero_le _⟩, s5, e_X14_init (r_X14_init_0 ⟨Nat.le_of_ble_eq_true rfl, r_X14_init_4 ⟨rfl, r_X16_init_4 ⟨s5, by show 256 ≤ xN w3; omega, ov0, rfl, r_X2_fact_79 ?_⟩⟩⟩)⟩)⟩
    refine ⟨s341, s341, by omega, ⟨_, rfl, rfl⟩, ?_⟩
    have e9 : ∀ B, xI (xSetB (xUpR w5 (xN w3) 0 o) B) 341 4 - 1 = nI op := o6
    exact (congrArg (fun v => Q (some (.ref (xN w3))) (xUpI (xSetB (xUpR w5 (xN w3) 0 o) _) 341 4 v)) (e9 _)).mpr (fin _)
  -- all, or a comparison
  rw [hereB_s hss] at hh
  have f2 : xq w1 w2 := f2
  have nn2 := f2.1
  have q2 : xq w w2 := xq_trans q1 f2
  have z2 : XZ T p w2 := z2
  have hpp : sk T p = sk T a := hp2.trans hss
  have hpa : a ≤ p := by omega
  have o2 : xI w2 341 4 = nI op := Eq.trans (b := xI w1 341 4) o2 o1
  have e1 : (if hereB T a (wT 25) = true then (if op = 6 then .inl (4, sk T a) else bnd (pT T F f 0 (sk T a + 3) (op + 1)) (fun c a1 => .inr (c ++ [16], a1))) else cmP T F a op) = cmP T F a op := by rw [hh, if_neg (by decide)]
  rw [e1] at hne hb qe qo elt bad
  have ecm : cmP T F a op = if hereB T a (wT 26) = true then .inr ([17], sk T a + 3) else bnd (pE T F 3 a op) (fun c1 a1 => if (chB T (sk T a1) 60 || chB T (sk T a1) 62 || chB T (sk T a1) 61) = true then bnd (pE T F 3 (sk T a1 + 1) op) (fun c2 a2 => .inr (c1 ++ c2 ++ [if chB T (sk T a1) 60 = true then 11 else if chB T (sk T a1) 62 = true then 12 else 13], sk T a2)) else .inl (1, sk T a1)) := rfl
  have hw : S1 ≤ 22 ∨ T.length + 3 ≤ eF T op (cmP T F a op) := by
    by_cases h26 : hereB T a (wT 26) = true
    · have hw := here_w (k := 26) (by omega) (by omega) hal h26
      have ew : (wT 26).length = 3 := rfl
      left; omega
    · rw [ecm, if_neg h26]
      cases hr : pE T F 3 a op with
      | inl e => right; show T.length + 3 ≤ T.length + 3 + 2 * (6 - op); omega
      | inr q =>
        have := pE_wn hal (c := q.1) (p := q.2) hr
        left; omega
  have hS1' : S1 ≤ 3210 := by omega
  refine ⟨3, S1, ⟨by show 3 ≤ (xB w1).1 - 3; omega, by show S1 ≤ (xB w1).2 - S1; omega⟩, x_passes (w := xSetB (xSetB w2 _) (3, S1)) (k := 26) z2 (by omega) (by omega) (fun _ => ⟨Nat.le_refl _, by rw [hpp]; exact Nat.le_of_eq hS1.symm⟩) (fun hl1 hp1 w3 f3 e3 s3 => ?_) (fun hh3 hp3 w3 p3 f3 hp31 hp32 z3 o3 _ _ => r_X2_fact_99 ⟨fun _ => ⟨z3.1.1.1.1, ?_⟩, fun y => absurd rfl y⟩) (fun hh3 w3 f3 z3 fr3 o3 _ => r_X2_fact_99 ⟨fun y => absurd y (by decide), fun _ => ?_⟩)⟩
  · rw [hpp] at hl1 hp1 e3
    exact qe.1 1 (sk T a) (bad ⟨hl1, hp1⟩) _ (xq_trans q2 (w1 := w2) f3) e3 s3
  rotate_left
  · -- all
    rw [hereB_s hpp] at hh3
    rw [hpp] at z3
    have hw9 := here_w (k := 26) (by omega) (by omega) hal hh3
    have ew : (wT 26).length = 3 := rfl
    rw [ew] at hw9
    rw [hw9.1] at z3
    have f3 : xq w2 w3 := f3
    have nn3 := f3.1
    have q3 : xq w w3 := xq_trans q2 f3
    have z3 : XZ T (sk T a + 3) w3 := z3
    have hN3 := XZ_n z3
    have o3 : xI w3 341 4 = nI op := Eq.trans (b := xI w2 341 4) o3 o2
    have e9 : cmP T F a op = .inr ([17], sk T a + 3) := by rw [ecm, if_pos hh3]
    have kn : xk (fun _ => False) w3 (xNew1 w3 (15, 0) (xNf 14)) := xk_n1 (xk_refl _ w3) _ _
    have sn : xS (xNew1 w3 (15, 0) (xNf 14)) (xN w3) = (15, 0) := n1_S0
    have fin : ∀ B, Q (some (.ref (xN w3))) (xSetB (xNew1 w3 (15, 0) (xNf 14)) B) := fun B => by
      refine qo [17] (sk T a + 3) e9 (xSetB (xNew1 w3 (15, 0) (xNf 14)) B) (xN w3) (xq_trans q3 (xq_k kn)) (XZw_s (XZs_of (XZ_k z3 kn (fun i hi => hi.elim)))) ?_ (XTd_m (d := 0) (t_all (P := fun i => xN w ≤ i ∧ i < xN w3 + 1) (w := xNew1 w3 (15, 0) (xNf 14)) (by rw [sn]) ⟨by omega, by omega⟩ (by omega)) (Nat.zero_le _) (xsm_refl _ _) (fun i hi => hi)) ⟨by show 13 ≤ (xS (xNew1 w3 (15, 0) (xNf 14)) (xN w3)).1; rw [sn]; omega, by show (xS (xNew1 w3 (15, 0) (xNf 14)) (xN w3)).1 ≤ 16; rw [sn]; omega⟩
      show xI (xNew1 w3 (15, 0) (xNf 14)) 341 4 = _
      rw [(kn.2.2 341 (by omega) (fun z => z)).1]; exact o3
    refine ⟨⟨by show 1 ≤ (xB w1).1 - 3 - 3; omega, by show xNf 14 ≤ (xB w1).2 - S1 - S1; omega⟩, 0, 0, ⟨Nat.zero_le _, Nat.zero_le _⟩, by show (xS (xNew1 w3 (15, 0) (xNf 14)) (xN w3)).1 = 15; rw [sn], e_X17_init (r_X17_init_0 ⟨0, 0, ⟨Nat.zero_le _, Nat.zero_le _⟩, by show (xS (xNew1 w3 (15, 0) (xNf 14)) (xN w3)).1 = 15; rw [sn], e_X14_init (r_X14_init_0 ⟨Nat.le_of_ble_eq_true rfl, r_X14_init_4 ⟨rfl, r_X17_init_4 ⟨rfl, r_X2_fact_109 ⟨⟨_, rfl, rfl⟩, fin _⟩⟩⟩⟩)⟩)⟩
  -- a comparison
  rw [hereB_s hpp] at hh3
  have f3 : xq w2 w3 := f3
  have nn3 := f3.1
  have q3 : xq w w3 := xq_trans q2 f3
  have z3 : XZ T p3 w3 := z3
  have hN3 := XZ_n z3
  have hpp3 : sk T p3 = sk T a := hp32.trans hpp
  have o3 : xI w3 341 4 = nI op := Eq.trans (b := xI w2 341 4) o3 o2
  rw [ecm, if_neg (by rw [hh3]; decide)] at hne hb qe qo elt hw
  clear ecm bad e1
  have hne1 : pE T F 3 a op ≠ .inl (0, 0) := fun z => hne (bnd_l z)
  have zs3 : XZs T a w3 := ⟨p3, by omega, hpp3, z3⟩
  have en1 := pE_lt (T := T) (f := F) (tag := 3) (a := a) (op := op) (by omega) hal
  have enT := (eN_pE (T := T) (f := F) (tag := 3) (op := op) hal).2
  generalize hKK : (fun c1 a1 => if (chB T (sk T a1) 60 || chB T (sk T a1) 62 || chB T (sk T a1) 61) = true then bnd (pE T F 3 (sk T a1 + 1) op) (fun c2 a2 => (.inr (c1 ++ c2 ++ [if chB T (sk T a1) 60 = true then 11 else if chB T (sk T a1) 62 = true then 12 else 13], sk T a2) : PR)) else .inl (1, sk T a1)) = KK at *
  have hK : ∀ c1 a1, KK c1 a1 = if (chB T (sk T a1) 60 || chB T (sk T a1) 62 || chB T (sk T a1) 61) = true then bnd (pE T F 3 (sk T a1 + 1) op) (fun c2 a2 => .inr (c1 ++ c2 ++ [if chB T (sk T a1) 60 = true then 11 else if chB T (sk T a1) 62 = true then 12 else 13], sk T a2)) else .inl (1, sk T a1) := fun c1 a1 => by rw [← hKK]
  have en2 : eN T (pE T F 3 a op) + 2 ≤ eF T op (bnd (pE T F 3 a op) KK) := by
    cases hr : pE T F 3 a op with
    | inl e => show T.length + 1 + 2 ≤ T.length + 3 + 2 * (6 - op); omega
    | inr q =>
      show q.2 + 2 ≤ eF T op (KK q.1 q.2)
      have g := sk_ge T q.2
      have g2 := pE_le T F 3 _ _ q.1 q.2 hal hr
      rw [hK]
      refine eF_if (fun hc3 => ?_) (fun _ => ?_)
      · have hlt : sk T q.2 < T.length := by
          rw [Bool.or_eq_true, Bool.or_eq_true] at hc3
          rcases hc3 with (z | z) | z <;> exact chB_lt z
        have p2 := pE_lt (T := T) (f := F) (tag := 3) (a := sk T q.2 + 1) (op := op) (by omega) (by omega)
        cases hr2 : pE T F 3 (sk T q.2 + 1) op with
        | inl e => show q.2 + 2 ≤ T.length + 3 + 2 * (6 - op); omega
        | inr q2 =>
          have p3 : sk T q.2 + 1 < q2.2 := by rw [hr2] at p2; exact p2
          have g4 := sk_ge T q2.2
          show q.2 + 2 ≤ sk T q2.2; omega
      · show q.2 + 2 ≤ T.length + 3 + 2 * (6 - op); omega
  have hS : S1 ≤ 2 * (eN T (pE T F 3 a op) - a) + 22 := by
    cases hr : pE T F 3 a op with
    | inl e => show S1 ≤ 2 * (T.length + 1 - a) + 22; omega
    | inr q =>
      have := pE_wn hal (c := q.1) (p := q.2) hr
      omega
  obtain ⟨C1, hC1⟩ : ∃ C, C = 30 * (eN T (pE T F 3 a op) - a) := ⟨_, rfl⟩
  obtain ⟨D1, hD1⟩ : ∃ S, S = 4500 * (eN T (pE T F 3 a op) - a) := ⟨_, rfl⟩
  refine ⟨C1, D1, ⟨by show C1 ≤ (xB w1).1 - 3 - 3; omega, by show D1 ≤ (xB w1).2 - S1 - S1; omega⟩, hE a op 40 (xSetB (xSetB w3 _) (C1, D1)) _ _ zs3 o3 hop (by omega) hne1 ⟨by show 30 * _ ≤ C1 + 0; omega, by show 4500 * _ ≤ D1 + 100 * 0; omega⟩ (fun kd pl hr w4 f4 e4 s4 => qe.1 kd pl (bnd_l hr) _ (xq_trans q3 (w1 := w3) f4) e4 s4) (fun c1 p1 hr w4 oA f4 z4 o4 v4 k4 => r_X2_fact_114 ?_)⟩
  have f4 : xq w3 w4 := f4
  have nn4 := f4.1
  have q4 : xq w w4 := xq_trans q3 f4
  have hpl := pE_le T F 3 _ _ c1 p1 hal hr
  have en4 : eN T (pE T F 3 a op) = p1 := by rw [hr]; rfl
  rw [en4] at hC1 hD1 en1 en2 hS
  rw [bnd_r hr, hK] at hne hb qe qo en2
  obtain ⟨b4, hb4, hsb4, z4⟩ := z4
  have z4 : XZ T b4 w4 := z4
  have hN4 := XZ_n z4
  have o4 : xI w4 341 4 = nI op := o4
  have v4 : XVd (3 * (6 - op) + 2) (fun i => xN w3 ≤ i ∧ i < xN w4) c1 oA w4 := v4
  have hsk1 := sk_is T hpl
  have z4B : ∀ B, XRd T b4 (xSetB w4 B) := fun _ => z4.1
  refine ⟨z4.1.1.1.1, x_here b4 _ (z4B _) (fR_refl _) rfl (fun w5 f5 b5 r5 j5 => r_X2_fact_119 ?_)⟩
  have b5 : xB w5 = ((xB w1).1 - 3 - 3 - C1, (xB w1).2 - S1 - S1 - D1) := b5
  have b51 : (xB w5).1 = (xB w1).1 - 3 - 3 - C1 := by rw [b5]
  have b52 : (xB w5).2 = (xB w1).2 - S1 - S1 - D1 := by rw [b5]
  have f5 : fR w4 w5 := f5
  rw [hsb4] at r5 ⊢
  have n5 : xN w5 = xN w4 := f5.1.1
  have q5 : xq w w5 := xq_trans q4 (xq_f f5)
  have c5 := XC_q z4.2 (xq_f f5) hN4
  have o5 : xI w5 341 4 = nI op := by rw [f5.2.2 341 4 (by omega) (by omega)]; exact o4
  have at5 : xI w5 341 2 + 1 = nI (sk T p1 + 1) := by rw [r5.2.1]; exact n_add _ 1
  by_cases hsg : ∃ s, (s = 60 ∨ s = 62 ∨ s = 61) ∧ chB T (sk T p1) s = true
  rotate_left
  · have no : ∀ s, (s = 60 ∨ s = 62 ∨ s = 61) → chB T (sk T p1) s = false := fun s hs => by
      cases h : chB T (sk T p1) s with
      | false => rfl
      | true => exact absurd ⟨s, hs, h⟩ hsg
    have ne : ∀ s, (s = 60 ∨ s = 62 ∨ s = 61) → ¬ (ch T (sk T p1) = nI s) := fun s hs z => by
      have := (ch_B hT (c := s) (by omega)).mp z
      rw [no s hs] at this; cases this
    rw [no 60 (by omega), no 62 (by omega), no 61 (by omega), if_neg (by decide)] at qe
    exact ⟨fun z => absurd z (ne 60 (by omega)), fun _ => ⟨fun z => absurd z (ne 62 (by omega)), fun _ => ⟨fun z => absurd z (ne 61 (by omega)), fun _ => ⟨r5.1.1.1, r5.1.1.1, x_wrong r5.1 (kd := 1) rfl r5.2.1 (fun w6 f6 b6 e6 s6 _ => r_X2_fact_147 ⟨s6, qe.1 1 (sk T p1) rfl w6 (xq_trans q5 (xq_f f6)) e6 s6⟩)⟩⟩⟩⟩
  obtain ⟨s, hs, hcs⟩ := hsg
  have ech : ch T (sk T p1) = nI s := (ch_B hT (by omega)).mpr hcs
  have hlt := chB_lt hcs
  have hor : (chB T (sk T p1) 60 || chB T (sk T p1) 62 || chB T (sk T p1) 61) = true := by
    rcases hs with g | g | g <;> subst g <;> rw [hcs] <;> simp
  have hck : (if chB T (sk T p1) 60 = true then 11 else if chB T (sk T p1) 62 = true then 12 else 13) = cmK s := by
    have hg : T.getD (sk T p1) 0 = s := by
      unfold chB at hcs
      rw [Bool.and_eq_true, decide_eq_true_eq, decide_eq_true_eq] at hcs; exact hcs.2
    unfold chB cmK
    rw [hg, decide_eq_true hlt]
    rcases hs with g | g | g <;> subst g <;> rfl
  rw [if_pos hor, hck] at hne hb qe qo en2
  rw [ech, at5]
  refine tri ?_ ?_
  · rcases hs with g | g | g <;> subst g
    · exact Or.inl rfl
    · exact Or.inr (Or.inl rfl)
    · exact Or.inr (Or.inr rfl)
  have hne2 : pE T F 3 (sk T p1 + 1) op ≠ .inl (0, 0) := fun z => hne (bnd_l z)
  have en6 := pE_lt (T := T) (f := F) (tag := 3) (a := sk T p1 + 1) (op := op) (by omega) (by omega)
  have en7 : eN T (pE T F 3 (sk T p1 + 1) op) ≤ eF T op (bnd (pE T F 3 (sk T p1 + 1) op) (fun c2 a2 => .inr (c1 ++ c2 ++ [cmK s], sk T a2))) := by
    cases hr2 : pE T F 3 (sk T p1 + 1) op with
    | inl e => show T.length + 1 ≤ T.length + 3 + 2 * (6 - op); omega
    | inr q2 => exact sk_ge T q2.2
  have q6 : xq w5 (xUpI w5 341 2 (nI (sk T p1 + 1))) := xq_341 (Or.inl rfl)
  have z6 : XZ T (sk T p1 + 1) (xUpI w5 341 2 (nI (sk T p1 + 1))) := ⟨⟨XRt_q r5.1 q6, by rw [x_uI, if_pos ⟨rfl, rfl⟩], by omega⟩, XC_q c5 q6 (by omega)⟩
  have o6 : xI (xUpI w5 341 2 (nI (sk T p1 + 1))) 341 4 = nI op := by rw [x_uI, if_neg (by omega)]; exact o5
  obtain ⟨w6, hw6⟩ : ∃ w6, w6 = xUpI w5 341 2 (nI (sk T p1 + 1)) := ⟨_, rfl⟩
  have b6 : xB w6 = xB w5 := by rw [hw6]; rfl
  have n6 : xN w6 = xN w5 := by rw [hw6]; rfl
  have k46 : xk (fun i => i = 341 ∨ i = 342) w4 w6 := by rw [hw6]; exact xk_trans (xk_q (xq_f f5)) (xk_q q6)
  have q06 : xq w w6 := by rw [hw6]; exact xq_trans q5 q6
  rw [← hw6] at z6 o6 ⊢
  have kn : xk (fun _ => False) w6 (xNew1 w6 (16, 0) (xNf 15)) := xk_n1 (xk_refl _ w6) _ _
  have z7 : XZ T (sk T p1 + 1) (xNew1 w6 (16, 0) (xNf 15)) := XZ_k z6 kn (fun i hi => hi.elim)
  have s7 : xS (xNew1 w6 (16, 0) (xNf 15)) (xN w6) = (16, 0) := n1_S0
  have o7 : xI (xNew1 w6 (16, 0) (xNf 15)) 341 4 = nI op := by rw [(kn.2.2 341 (by omega) (fun z => z)).1]; exact o6
  have q7 : xq w (xNew1 w6 (16, 0) (xNf 15)) := xq_trans q06 (xq_k kn)
  obtain ⟨C2, hC2⟩ : ∃ C, C = 30 * (eN T (pE T F 3 (sk T p1 + 1) op) - (sk T p1 + 1)) := ⟨_, rfl⟩
  obtain ⟨D2, hD2⟩ : ∃ S, S = 4500 * (eN T (pE T F 3 (sk T p1 + 1) op) - (sk T p1 + 1)) := ⟨_, rfl⟩
  have b61 : (xB w6).1 = (xB w1).1 - 3 - 3 - C1 := by rw [b6]; exact b51
  have b62 : (xB w6).2 = (xB w1).2 - S1 - S1 - D1 := by rw [b6]; exact b52
  refine ⟨r5.1.1.1, r5.1.1.1, by omega, ⟨by rw [b61]; omega, by rw [b62]; omega⟩, z7.1.1.1.1, C2, D2, ⟨by show C2 ≤ (xB w6).1 - 1; rw [b61]; omega, by show D2 ≤ (xB w6).2 - xNf 15; rw [b62]; omega⟩, hE (sk T p1 + 1) op 40 (xSetB (xNew1 w6 (16, 0) (xNf 15)) (C2, D2)) _ _ (XZs_of z7) o7 hop (by omega) hne2 ⟨by show 30 * _ ≤ C2 + 0; omega, by show 4500 * _ ≤ D2 + 100 * 0; omega⟩ (fun kd pl hr w8 f8 e8 s8 => qe.1 kd pl (bnd_l hr) _ (xq_trans q7 f8) e8 s8) (fun c2 p2 hr2 w8 oB f8 z8 o8 v8 k8 => r_X2_fact_168 ?_)⟩
  have f8 : xq (xNew1 w6 (16, 0) (xNf 15)) w8 := f8
  have nn8 : xN w6 + 1 ≤ xN w8 := f8.1
  have q08 : xq w w8 := xq_trans q7 f8
  obtain ⟨b8, hb8, hsb8, z8⟩ := z8
  have z8 : XZ T b8 w8 := z8
  have o8 : xI w8 341 4 = nI op := o8
  have v8 : XVd (3 * (6 - op) + 2) (fun i => xN w6 + 1 ≤ i ∧ i < xN w8) c2 oB w8 := v8
  have s8 : (xS w8 (xN w6)).1 = 16 := by rw [(xk_q f8).2.1 (xN w6) (by show xN w6 < xN w6 + 1; omega), s7]
  have hp2 := pE_le T F 3 _ _ c2 p2 (by omega) hr2
  rw [bnd_r hr2] at qo
  have oA0 : oA ≠ 0 := v4.2.1.2
  have oB0 : oB ≠ 0 := v8.2.1.2
  have k68 : xk (fun i => i = 341 ∨ i = 342) w6 w8 := xk_trans (xk_wk kn (fun i _ hi => hi.elim)) (xk_q f8)
  have k48 : xk (fun i => i = 341 ∨ i = 342) w4 w8 := xk_trans k46 k68
  obtain ⟨w9, hw9⟩ : ∃ w9, w9 = xUpR (xUpI (xUpR w8 (xN w6) 0 oA) (xN w6) 2 (nI s)) (xN w6) 1 oB := ⟨_, rfl⟩
  have k89 : xk (fun i => i = xN w6) w8 w9 := by rw [hw9]; exact xk_uR (E := fun i => i = xN w6) (xk_uI (E := fun i => i = xN w6) (xk_uR (E := fun i => i = xN w6) (xk_refl _ w8) (Or.inl rfl)) (Or.inl rfl)) (Or.inl rfl)
  have n9 : xN w9 = xN w8 := by rw [hw9]; rfl
  have s9 : (xS w9 (xN w6)).1 = 16 := by rw [hw9]; exact s8
  have i9 : xI w9 (xN w6) 2 = nI s := by rw [hw9]; exact if_pos ⟨rfl, rfl⟩
  have r90 : xR w9 (xN w6) 0 = oA := by
    rw [hw9, x_uRR, if_neg (by omega)]
    exact if_pos ⟨rfl, rfl⟩
  have r91 : xR w9 (xN w6) 1 = oB := by rw [hw9, x_uRR, if_pos ⟨rfl, rfl⟩]
  have z9 : XZ T b8 w9 := XZ_k z8 k89 (fun i hi => by omega)
  have o9 : xI w9 341 4 = nI op := by rw [(k89.2.2 341 (by omega) (by omega)).1]; exact o8
  have fin : ∀ B, Q (some (.ref (xN w6))) (xSetB w9 B) := fun B => by
    refine qo (c1 ++ c2 ++ [cmK s]) (sk T p2) rfl (xSetB w9 B) (xN w6) (xq_ke q08 k89 (fun i hi => by omega)) ⟨sk_le T hp2, b8, by rw [sk_sk hp2]; exact hsb8, z9⟩ o9 ?_ ⟨by show 13 ≤ (xS w9 (xN w6)).1; omega, by show (xS w9 (xN w6)).1 ≤ 16; omega⟩
    refine XTd_m (d := 0) (w := w9) (P := fun i => xN w ≤ i ∧ i < xN w9) (t_than s9 hs i9 r90 r91 ⟨by omega, by omega⟩ (by omega) (XVd_m v4 (by omega) (xsm_k (E := fun i => i = 341 ∨ i = 342 ∨ i = xN w6) (xk_trans (xk_wk k48 (fun i _ hi => by omega)) (xk_wk k89 (fun i _ hi => by omega))) (fun i hi => ?_)) (fun i hi => ?_)) (XVd_m v8 (by omega) (xsm_k k89 (fun i hi => ?_)) (fun i hi => ?_))) (Nat.zero_le _) (xsm_refl _ _) (fun i hi => hi)
    · have h1 : xN w3 ≤ i := hi.1
      have h2 : i < xN w4 := hi.2
      omega
    · have h1 : xN w3 ≤ i := hi.1
      have h2 : i < xN w4 := hi.2
      exact ⟨by omega, by omega⟩
    · have h1 : xN w6 + 1 ≤ i := hi.1
      have h2 : i < xN w8 := hi.2
      omega
    · have h1 : xN w6 + 1 ≤ i := hi.1
      have h2 : i < xN w8 := hi.2
      exact ⟨by omega, by omega⟩
  rw [hw9] at fin
  exact ⟨0, 0, ⟨Nat.zero_le _, Nat.zero_le _⟩, s8, e_X18_init (r_X18_init_0 ⟨0, 0, ⟨Nat.zero_le _, Nat.zero_le _⟩, s8, e_X14_init (r_X14_init_0 ⟨Nat.le_of_ble_eq_true rfl, r_X14_init_4 ⟨rfl, r_X18_init_4 ⟨s8, by omega, oA0, s8, by omega, s8, by omega, oB0, rfl, r_X2_fact_171 ⟨⟨_, rfl, rfl⟩, fin _⟩⟩⟩⟩)⟩)⟩
theorem x_all_tests (T : List Nat) (F f : Nat) : SX T F f 0 2 20 0 1 ∧ SX T F f 1 1 10 1 2 ∧ SX_both T F f ∧ SX T F f 3 0 0 2 3 ∧ SX_test T F f := by
  induction f with
  | zero => exact ⟨fun a op d w Q Qx _ _ _ _ h => absurd rfl h, fun a op d w Q Qx _ _ _ _ h => absurd rfl h, fun a op d w0 w E L A Q Qx _ _ _ _ _ _ _ _ _ _ _ h => absurd rfl h, fun a op d w Q Qx _ _ _ _ h => absurd rfl h, fun a op d w0 w E L A Q Qx _ _ _ _ _ _ _ _ _ _ _ h => absurd rfl h⟩
  | succ f ih =>
    obtain ⟨h0, h1, h2, h3, h4⟩ := ih
    exact ⟨x_fact F f h3 h0 (x_all_sums T F).2.2.2.1, it_both F f h0 h2, lt_both F f h0 h2, it_test F f h1 h4, lt_test F f h1 h4⟩
end
