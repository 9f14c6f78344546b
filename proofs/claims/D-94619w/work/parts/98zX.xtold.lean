/-! X: a statement that is told (printed by gen/xtold.py) -/
section
variable {T : List Nat} {Q : Option Value → xw → Prop} {Qx : Nat → xw → Prop} {w : xw}
/-- where told() goes by the word's number -/
def toldD (Qx : Nat → xw → Prop) (Q : Option Value → xw → Prop) (w : xw) (x2 x4 : Int32) (l3 : Option Value) : Prop := ((((x4 : Int32) < 0 ∨ 3 < (x4 : Int32)) → ((xS w 341).1 = 3 ∧ V_X2_wrong [.ref 341, .int 1, .int x2] w (fun v w1 => T_X2_told Qx Q 299 [some (.ref 341), none, some (.int x2), l3, some (.int x4), none, none] (v.toList ++ []) w1))) ∧ ((x4 : Int32) = 0 → ((xS w 341).1 = 3 ∧ ¬ xR w 341 5 = 0 ∧ ((xS w (xR w 341 5)).1 = 2 ∧ ¬ xR w (xR w 341 5) 4 = 0 ∧ ((xS w (xR w (xR w 341 5) 4)).1 = 17 ∧ V_J2_size [.ref (xR w (xR w 341 5) 4)] w (fun v w1 => T_X2_told Qx Q 153 [some (.ref 341), none, some (.int x2), l3, some (.int x4), none, none] (v.toList ++ [.ref 341]) w1))))) ∧ ((x4 : Int32) = 1 → ((xS w 341).1 = 3 ∧ ¬ xR w 341 5 = 0 ∧ ((xS w (xR w 341 5)).1 = 2 ∧ ((¬ (xI w (xR w 341 5) 3 : Int32) = 20 → ((xS w 341).1 = 3 ∧ ∃ C S : Nat, (C ≤ (xB w).1 ∧ S ≤ (xB w).2) ∧ V_X2_most [.ref 341, .int 0, .int x2] (xSetB w (C, S)) (fun v w1 => T_X2_told Qx Q 195 [some (.ref 341), none, some (.int x2), l3, some (.int x4), none, none] (v.toList ++ []) (xSetB w1 ((xB w).1 - C, (xB w).2 - S))) (fun q w1 => Qx q (xSetB w1 ((xB w).1 - C, (xB w).2 - S))))) ∧ (¬ (¬ (xI w (xR w 341 5) 3 : Int32) = 20) → ((xS w 341).1 = 3 ∧ ∃ C S : Nat, (C ≤ (xB w).1 ∧ S ≤ (xB w).2) ∧ V_X2_most [.ref 341, .int 1, .int x2] (xSetB w (C, S)) (fun v w1 => T_X2_told Qx Q 195 [some (.ref 341), none, some (.int x2), l3, some (.int x4), none, none] (v.toList ++ []) (xSetB w1 ((xB w).1 - C, (xB w).2 - S))) (fun q w1 => Qx q (xSetB w1 ((xB w).1 - C, (xB w).2 - S))))))))) ∧ ((x4 : Int32) = 2 → ((xS w 341).1 = 3 ∧ ∃ C S : Nat, (C ≤ (xB w).1 ∧ S ≤ (xB w).2) ∧ V_X2_side [.ref 341] (xSetB w (C, S)) (fun v w1 => T_X2_told Qx Q 206 [some (.ref 341), none, some (.int x2), l3, some (.int x4), none, none] (v.toList ++ []) (xSetB w1 ((xB w).1 - C, (xB w).2 - S))) (fun q w1 => Qx q (xSetB w1 ((xB w).1 - C, (xB w).2 - S))))) ∧ ((x4 : Int32) = 3 → ((xS w 341).1 = 3 ∧ ¬ xR w 341 5 = 0 ∧ ((xS w (xR w 341 5)).1 = 2 ∧ ¬ xR w (xR w 341 5) 5 = 0 ∧ ((xS w (xR w (xR w 341 5) 5)).1 = 17 ∧ V_J2_size [.ref (xR w (xR w 341 5) 5)] w (fun v w1 => T_X2_told Qx Q 238 [some (.ref 341), none, some (.int x2), l3, some (.int x4), none, none] (v.toList ++ [.ref 341]) w1))))) ∧ True)
def eS (T : List Nat) (r : Sum (Nat × Nat) (TB × Nat)) : Nat := match r with
  | .inl _ => T.length + 15
  | .inr q => q.2
set_option maxHeartbeats 4000000 in
/-- a rule is read -/
theorem x_ruleT {a wd hg n b pb : Nat} {t : TB} {w0 : xw} (hz : XZs T a w) (hop : xI w 341 4 = nI 0) (hq0 : xqb b w0 w) (hb0 : b ≤ xN w0) (hto : XTo wd hg t n b w) (h6 : (tR t).length < 6) (hb : 60 * (eS T (ruP T t pb a) - a) + 30 ≤ (xB w).1 ∧ 5500 * (eS T (ruP T t pb a) - a) + 10000 ≤ (xB w).2)
    (qe : ∀ kd pl, ruP T t pb a = .inl (kd, pl) → ∀ w', xqb b w0 w' → XBad kd pl w' → (xS w' 342).1 = 4 → Qx 342 w')
    (qx : ∀ t' a1, ruP T t pb a = .inr (t', a1) → chB T (sk T a1) 59 = false → ∀ w', xqb b w0 w' → XBad 1 (sk T a1) w' → (xS w' 342).1 = 4 → Qx 342 w')
    (qo : ∀ t' a1, ruP T t pb a = .inr (t', a1) → ∀ w', xqb b w0 w' → XZw T a1 w' → XTo wd hg t' n b w' → xI w' 341 4 = nI 0 → Q none w')
    {o1 o2 o3 o4 o5 o6 : Option Value} : T_X2_told Qx Q 252 [some (.ref 341), o1, o2, o3, o4, o5, o6] [] w := by
  have hal := XZs_le hz
  have hN := XZs_n hz
  have hbb := XTB_b hto.1
  have s341 : (xS w 341).1 = 3 := by obtain ⟨b, _, _, z⟩ := hz; exact z.1.1.1.1
  have l16 : T.length ≤ 1600 := by obtain ⟨b, _, _, z⟩ := hz; exact z.1.1.2.2.2.2.1.1
  have e0 : ruP T t pb a = match pE T FU 3 a 0 with
    | .inl e => .inl e
    | .inr (s, a1) => if hereB T a1 (wT 22) = true then match pT T FU FU 3 (sk T a1 + 4) 0 with
      | .inl e => .inl e
      | .inr (c, a2) => .inr ((tK t, tS t, tL t, tN t, tR t ++ [(s, c)]), sk T a2)
      else .inl (1, sk T a1) := by unfold ruP; rw [if_neg (by omega)]; rfl
  have w3 : wtF 3 = 3 := rfl
  have hF : 4 * T.length + 3 < FU := by show 4 * T.length + 3 < 9000; omega
  have hne1 : pE T FU 3 a 0 ≠ .inl (0, 0) := pE_fuel T FU 3 a 0 (by show 4 * (T.length - a) + wtF 3 < 9000; omega)
  have en1 := pE_lt (T := T) (f := FU) (tag := 3) (a := a) (op := 0) (by omega) hal
  have enT := (eN_pE (T := T) (f := FU) (tag := 3) (op := 0) hal).2
  have en2 : eN T (pE T FU 3 a 0) ≤ eS T (ruP T t pb a) := by
    rw [e0]
    cases hr : pE T FU 3 a 0 with
    | inl e => show T.length + 1 ≤ T.length + 15; omega
    | inr q =>
      have g2 := pE_le T FU 3 _ _ q.1 q.2 hal hr
      have gs := sk_ge T q.2
      show q.2 ≤ eS T (if hereB T q.2 (wT 22) = true then _ else _)
      by_cases h22 : hereB T q.2 (wT 22) = true
      · rw [if_pos h22]
        have hw := here_w (k := 22) (by omega) (by omega) g2 h22
        have ew : (wT 22).length = 4 := rfl
        rw [ew] at hw
        cases hr2 : pT T FU FU 3 (sk T q.2 + 4) 0 with
        | inl e => show q.2 ≤ T.length + 15; omega
        | inr q2 =>
          have := pT_ge _ _ _ _ _ _ _ _ hr2
          have := sk_ge T q2.2
          show q.2 ≤ sk T q2.2; omega
      · rw [if_neg h22]; show q.2 ≤ T.length + 15; omega
  obtain ⟨C1, hC1⟩ : ∃ C, C = 30 * (eN T (pE T FU 3 a 0) - a) := ⟨_, rfl⟩
  obtain ⟨D1, hD1⟩ : ∃ S, S = 4500 * (eN T (pE T FU 3 a 0) - a) := ⟨_, rfl⟩
  refine r_X2_told_252 ⟨s341, C1, D1, ⟨by omega, by omega⟩, (x_all_sums T FU).2.2.2.1 a 0 40 (xSetB w (C1, D1)) _ _ hz hop (by omega) (by omega) hne1 ⟨by show 30 * _ ≤ C1 + 0; omega, by show 4500 * _ ≤ D1 + 100 * 0; omega⟩ (fun kd pl hr w4 f4 e4 s4 => qe kd pl (by rw [e0, hr]) _ (xqb_q2 hq0 (w1 := w) f4 hb0) e4 s4) (fun c1 p1 hr w4 oA f4 z4 o4 v4 k4 => r_X2_told_256 ?_)⟩
  have f4 : xq w w4 := f4
  have nn4 := f4.1
  have q4 : xqb b w0 w4 := xqb_q2 hq0 f4 hb0
  have to4 := XTo_q hto f4 hN
  have hpl := pE_le T FU 3 _ _ c1 p1 hal hr
  have en4 : eN T (pE T FU 3 a 0) = p1 := by rw [hr]; rfl
  rw [en4] at hC1 hD1 en1 en2
  have e1 : ruP T t pb a = if hereB T p1 (wT 22) = true then match pT T FU FU 3 (sk T p1 + 4) 0 with
      | .inl e => .inl e
      | .inr (c, a2) => .inr ((tK t, tS t, tL t, tN t, tR t ++ [(c1, c)]), sk T a2)
      else .inl (1, sk T p1) := by rw [e0, hr]
  clear e0
  have z4w : XZw T p1 w4 := XZw_s z4
  have wn4 := wn_le z4w
  have hsk1 := sk_is T hpl
  obtain ⟨b4, hb4, hsb4, z4⟩ := z4
  have z4 : XZ T b4 w4 := z4
  have hN4 := XZ_n z4
  have o4 : xI w4 341 4 = nI 0 := o4
  have v4 : XVd (3 * (6 - 0) + 2) (fun i => xN w ≤ i ∧ i < xN w4) c1 oA w4 := v4
  refine ⟨z4.1.1.1.1, 3, 3210, ⟨by show 3 ≤ (xB w).1 - C1; omega, by show 3210 ≤ (xB w).2 - D1; omega⟩, x_wordS (w := xSetB (xSetB w4 _) (3, 3210)) (k := 22) z4 (by omega) (by omega) ⟨Nat.le_refl _, by rw [hsb4]; exact wn4⟩ (fun hh w5 f5 e5 s5 => ?_) (fun hh w5 f5 z5 fr5 op5 _ => r_X2_told_264 ?_)⟩
  · rw [hereB_s hsb4] at hh
    rw [hsb4] at e5
    exact qe 1 (sk T p1) (by rw [e1, hh]; rfl) _ (xqb_q2 q4 (w1 := w4) f5 hb0) e5 s5
  rw [hereB_s hsb4] at hh
  rw [hsb4] at z5
  have hw := here_w (k := 22) (by omega) (by omega) hpl hh
  have ew : (wT 22).length = 4 := rfl
  rw [ew] at hw
  rw [hw.1] at z5
  rw [if_pos hh] at e1
  have f5 : xq w4 w5 := f5
  have nn5 := f5.1
  have q5 : xqb b w0 w5 := xqb_q2 q4 f5 hb0
  have z5 : XZ T (sk T p1 + 4) w5 := z5
  have hN5 := XZ_n z5
  have to5 := XTo_q to4 f5 hN4
  have o5 : xI w5 341 4 = nI 0 := Eq.trans (b := xI w4 341 4) op5 o4
  have kn : xk (fun _ => False) w5 (xNew1 w5 (12, 0) (xNf 11)) := xk_n1 (xk_refl _ w5) _ _
  have qn : xq w5 (xNew1 w5 (12, 0) (xNf 11)) := xq_k kn
  have n11 : xNf 11 ≤ 6 := by decide
  have s6 : xS (xNew1 w5 (12, 0) (xNf 11)) (xN w5) = (12, 0) := n1_S0
  have z6 : XZ T (sk T p1 + 4) (xNew1 w5 (12, 0) (xNf 11)) := XZ_k z5 kn (fun i hi => hi.elim)
  have q6 : xqb b w0 (xNew1 w5 (12, 0) (xNf 11)) := xqb_q2 q5 qn hb0
  have o6' : xI (xNew1 w5 (12, 0) (xNf 11)) 341 4 = nI 0 := by rw [(kn.2.2 341 (by omega) (fun z => z)).1]; exact o5
  obtain ⟨⟨KL, RL, A, D, lim, hlim, tx⟩, hr0⟩ := id hto
  have hAD := XTx_AD tx
  have tx4 := XTx_q tx hlim f4
  have tx5 := XTx_q tx4 (by omega) f5
  have hr5 : ∀ B, xR (xSetB w5 B) 341 5 = b := fun _ => to5.2
  have hrb5 : ∀ B, xR (xSetB w5 B) b 5 = b + 3 := fun _ => tx5.1.2.1.2.1
  rw [hr5, hrb5]
  have hne2 : pT T FU FU 3 (sk T p1 + 4) 0 ≠ .inl (0, 0) := pT_fuel T FU hF FU 3 _ 0 (by show 4 * (T.length - (sk T p1 + 4)) + wtF 3 < 9000; omega)
  have en6 := eF_lt (T := T) (F := FU) (f := FU) (tag := 3) (a := sk T p1 + 4) (op := 0) (by omega) (by omega)
  have en7 : eF T 0 (pT T FU FU 3 (sk T p1 + 4) 0) ≤ eS T (ruP T t pb a) := by
    rw [e1]
    cases hr2 : pT T FU FU 3 (sk T p1 + 4) 0 with
    | inl e => show T.length + 3 + 2 * (6 - 0) ≤ T.length + 15; omega
    | inr q2 => exact sk_ge T q2.2
  obtain ⟨C2, hC2⟩ : ∃ C, C = 60 * (eF T 0 (pT T FU FU 3 (sk T p1 + 4) 0) - (sk T p1 + 4)) := ⟨_, rfl⟩
  obtain ⟨D2, hD2⟩ : ∃ S, S = 5500 * (eF T 0 (pT T FU FU 3 (sk T p1 + 4) 0) - (sk T p1 + 4)) := ⟨_, rfl⟩
  refine ⟨z5.1.1.1.1, by omega, tx5.1.1.1, by omega, ⟨by show 1 ≤ (xB w).1 - C1 - 3; omega, by show xNf 11 ≤ (xB w).2 - D1 - 3210; omega⟩, z6.1.1.1.1, C2, D2, ⟨by show C2 ≤ (xB w).1 - C1 - 3 - 1; omega, by show D2 ≤ (xB w).2 - D1 - 3210 - xNf 11; omega⟩, (x_all_tests T FU FU).2.2.2.1 (sk T p1 + 4) 0 40 (xSetB (xNew1 (xSetB w5 _) (12, 0) (xNf 11)) (C2, D2)) _ _ (XZs_of z6) o6' (by omega) (by omega) hne2 ⟨by show 60 * _ ≤ C2 + 0; omega, by show 5500 * _ ≤ D2 + 330 * 0; omega⟩ ⟨fun kd pl hr2 w7 f7 e7 s7 => qe kd pl (by rw [e1, hr2]) _ (xqb_q2 q6 f7 hb0) e7 s7, fun c p hr2 hst w7 f7 e7 s7 => ?_⟩ (fun c2 p2 hr2 w7 oB f7 z7 o7 v7 k7 => r_X2_told_281 ?_)⟩
  · have hpp := (pT_le T FU FU 3 _ 0 c p (by omega) hr2).1
    have hss := sk_sk hpp
    exact qx _ (sk T p) (by rw [e1, hr2]) (by rw [hss]; exact le_no hst.1 (by omega)) _ (xqb_q2 q6 f7 hb0) (by rw [hss]; exact e7) s7
  have f7 : xq (xNew1 w5 (12, 0) (xNf 11)) w7 := f7
  have nn7 : xN w5 + 1 ≤ xN w7 := f7.1
  have q7 : xqb b w0 w7 := xqb_q2 q6 f7 hb0
  have z7 : XZw T p2 w7 := z7
  have o7 : xI w7 341 4 = nI 0 := o7
  have f57 : xq w5 w7 := xq_trans qn f7
  have v7 : XTd (2 * (6 - 0) + 2) (fun i => xN w5 + 1 ≤ i ∧ i < xN w7) c2 oB w7 := v7
  have s7 : (xS w7 (xN w5)).1 = 12 := by rw [(xk_q f7).2.1 (xN w5) (by show xN w5 < xN w5 + 1; omega), s6]
  have tx7 := XTx_q tx5 (by omega) f57
  have hr7 : xR w7 341 5 = b := by rw [(f57.2.1 341 (by omega)).2.2]; exact to5.2
  have oA0 : oA ≠ 0 := v4.2.1.2
  have oB0 : oB ≠ 0 := v7.2.1.2
  have en9 : eF T 0 (pT T FU FU 3 (sk T p1 + 4) 0) = p2 := by rw [hr2]; rfl
  rw [en9] at hC2 hD2 en6 en7
  have hp2 := (pT_le T FU FU 3 _ 0 c2 p2 (by omega) hr2).1
  obtain ⟨w8, hw8⟩ : ∃ w8, w8 = xUpR (xUpR w7 (xN w5) 0 oA) (xN w5) 1 oB := ⟨_, rfl⟩
  have kU : xk (fun i => i = xN w5) w7 w8 := by rw [hw8]; exact xk_uR (E := fun i => i = xN w5) (xk_uR (E := fun i => i = xN w5) (xk_refl _ w7) (Or.inl rfl)) (Or.inl rfl)
  have n8 : xN w8 = xN w7 := by rw [hw8]; rfl
  have s8 : (xS w8 (xN w5)).1 = 12 := by rw [hw8]; exact s7
  have r80 : xR w8 (xN w5) 0 = oA := by
    rw [hw8, x_uRR, if_neg (by omega)]
    exact if_pos ⟨rfl, rfl⟩
  have r81 : xR w8 (xN w5) 1 = oB := by rw [hw8, x_uRR, if_pos ⟨rfl, rfl⟩]
  have tx8 : XTx wd hg t n b KL RL A D lim w8 := XTx_f tx7 (by omega) kU (fun i hi => by omega)
  have z8 : XZw T p2 w8 := XZw_k z7 kU (fun i hi => by omega)
  have o8 : xI w8 341 4 = nI 0 := by rw [(kU.2.2 341 (by omega) (by omega)).1]; exact o7
  have hr8 : xR w8 341 5 = b := by rw [(kU.2.2 341 (by omega) (by omega)).2.2]; exact hr7
  have q8 : xqb b w0 w8 := xqb_trans q7 (xqb_k kU (fun i hi => by omega) (by omega))
  have k48 : xk (fun i => i = 341 ∨ i = 342 ∨ i = xN w5) w4 w8 := xk_trans (xk_wk (xk_trans (xk_q f5) (xk_q f57)) (fun i _ hi => by omega)) (xk_wk kU (fun i _ hi => by omega))
  have ru8 : XRu (fun i => xN w ≤ i ∧ i < xN w8 ∧ i ≠ xN w5) (c1, c2) (xN w5) w8 := by
    refine ⟨⟨s8, by omega⟩, ?_, ?_⟩
    · rw [r80]
      exact XVd_m v4 (by omega) (xsm_k k48 (fun i hi => by have h1 : xN w ≤ i := hi.1; have h2 : i < xN w4 := hi.2; omega)) (fun i hi => by have h1 : xN w ≤ i := hi.1; have h2 : i < xN w4 := hi.2; exact ⟨by omega, by omega, by omega⟩)
    · rw [r81]
      exact XTd_m v7 (by omega) (xsm_k kU (fun i hi => by have h1 : xN w5 + 1 ≤ i := hi.1; have h2 : i < xN w7 := hi.2; omega)) (fun i hi => by have h1 : xN w5 + 1 ≤ i := hi.1; have h2 : i < xN w7 := hi.2; exact ⟨by omega, by omega, by omega⟩)
  have fin : ∀ B : Nat × Nat, 1 ≤ B.1 ∧ 100 ≤ B.2 → T_X2_told Qx Q 284 [none, none, none, none, none, none, none] [.ref (xN w5), .ref (b + 3)] (xSetB w8 B) := fun B hB => by
    refine r_X2_told_284 ⟨B.1, B.2, ⟨Nat.le_refl _, Nat.le_refl _⟩, tx8.2.2.2.1.2.2.2.choose_spec.1.1, x_radd (w := xSetB w8 _) (P := fun i => xN w ≤ i ∧ i < xN w8 ∧ i ≠ xN w5) tx8 (by show lim ≤ xN w8; omega) (by omega) ru8 (fun i hi => ⟨hi.2.1, by have := hi.1; unfold bC; omega⟩) (by unfold bC; omega) hB (fun w9 k9 t9 => r_X2_told_289 ⟨rfl, ?_⟩)⟩
    have k9 : xk (fun i => b ≤ i) w8 w9 := k9
    refine qo _ (sk T p2) (by rw [e1, hr2]) (xSetB w9 _) (xqb_trans q8 (xqb_k k9 (fun i hi => hi) (by omega))) (XZw_sk (XZw_k (w := w8) (w' := w9) z8 k9 (fun i hi => by omega))) ⟨t9, ?_⟩ ?_
    · show xR w9 341 5 = b
      rw [(k9.2.2 341 (by omega) (by omega)).2.2]; exact hr8
    · show xI w9 341 4 = _
      rw [(k9.2.2 341 (by omega) (by omega)).1]; exact o8
  rw [hw8] at fin
  refine ⟨0, 0, ⟨Nat.zero_le _, Nat.zero_le _⟩, s7, e_X13_init (r_X13_init_0 ⟨Nat.le_of_ble_eq_true rfl, r_X13_init_4 ⟨s7, by show 256 ≤ xN w5; omega, oA0, s7, by show 256 ≤ xN w5; omega, oB0, rfl, fin _ ?_⟩⟩)⟩
  show 1 ≤ (xB w).1 - C1 - 3 - 1 - C2 - 0 ∧ 100 ≤ (xB w).2 - D1 - 3210 - xNf 11 - D2 - 0
  omega
end
