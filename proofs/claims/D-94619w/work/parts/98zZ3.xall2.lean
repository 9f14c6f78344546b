/-! X: a whole border is read, from its field on -/
section
variable {T : List Nat} {Q : Option Value → xw → Prop} {Qx : Nat → xw → Prop} {w : xw}
/-- the Reader before it reads -/
def XRp (T : List Nat) (w : xw) : Prop := ((xS w 341).1 = 3 ∧ (xS w 342).1 = 4 ∧ (xS w 256).1 = 1 ∧ xS w 340 = (54, 1600)) ∧ (xR w 341 0 = 342 ∧ xR w 341 6 = 256 ∧ xR w 256 1 = 340) ∧ (∀ k, k < T.length → xI w 340 k = sx (T.getD k 0)) ∧ tpOk T ∧ 794 ≤ xN w
/-- what reading a border may alter -/
def xqa (w w' : xw) : Prop := xN w ≤ xN w' ∧ (∀ i, i < xN w → xS w' i = xS w i ∧ xL w' i = xL w i) ∧ (∀ i j, i < xN w → ¬ (i = 341 ∧ j = 5) → xR w' i j = xR w i j) ∧ ∀ i j, i < xN w → ¬ (i = 341 ∧ 1 ≤ j ∧ j ≤ 4) → ¬ (i = 342 ∧ (j = 6 ∨ j = 7)) → xI w' i j = xI w i j
theorem num_hi {a v : Nat} (hv : 3 ≤ v ∧ v ≤ 7) : numP T a 3 (min 7 (36 / v)) = match numP T a 3 7 with
    | .inl e => .inl e
    | .inr (h, a2) => if v * h ≤ 36 then .inr (h, a2) else .inl (2, sk T a) := by
  have key : ∀ h, 3 ≤ h → h ≤ 7 → (h ≤ min 7 (36 / v) ↔ v * h ≤ 36) := fun h h1 h2 => by
    have e : (h ≤ 36 / v) ↔ h * v ≤ 36 := Nat.le_div_iff_mul_le (by omega)
    rw [Nat.mul_comm] at e
    rw [Nat.le_min, e]
    exact ⟨fun x => x.2, fun x => ⟨h2, x⟩⟩
  unfold numP
  split
  · split
    · rfl
    · by_cases c : 3 ≤ numV T (sk T a) (dl T (sk T a) - sk T a) ∧ numV T (sk T a) (dl T (sk T a) - sk T a) ≤ 7
      · have k := key _ c.1 c.2
        rw [if_pos c]
        by_cases c2 : v * numV T (sk T a) (dl T (sk T a) - sk T a) ≤ 36
        · rw [if_pos ⟨c.1, k.mpr c2⟩]
          show _ = if _ then _ else _
          rw [if_pos c2]
        · rw [if_neg (fun z => c2 (k.mp z.2))]
          show _ = if _ then _ else _
          rw [if_neg c2]
      · rw [if_neg c, if_neg (fun z => c ⟨z.1, Nat.le_trans z.2 (Nat.min_le_left _ _)⟩)]
  · rfl
/-- a number of the Border is set -/
theorem XTo_n {wd hg n b wd' hg' n' k : Nat} {v : Nat} {t : TB} (h : XTo wd hg t n b w) (hk : (k = 0 ∧ wd' = v ∧ hg' = hg ∧ n' = n) ∨ (k = 1 ∧ wd' = wd ∧ hg' = v ∧ n' = n) ∨ (k = 2 ∧ wd' = wd ∧ hg' = hg ∧ n' = v)) : XTo wd' hg' t n' b (xUpI w b k (nI v)) ∧ xk (fun i => i = b) w (xUpI w b k (nI v)) := by
  obtain ⟨⟨KL, RL, A, D, lim, hlim, tx⟩, hr⟩ := h
  obtain ⟨_, _, h0, _, _, _, g9⟩ := id tx
  have kU : xk (fun i => i = b ∨ i = b + 5 ∨ i = b + 6 ∨ i = b + 7) w (xUpI w b k (nI v)) := xk_uI (E := fun i => i = b ∨ i = b + 5 ∨ i = b + 6 ∨ i = b + 7) (xk_refl _ w) (Or.inl (Or.inl rfl))
  refine ⟨⟨⟨KL, RL, A, D, lim, hlim, XTx_e tx hlim kU ⟨rfl, rfl⟩ rfl rfl ⟨?_, ?_, ?_, ?_⟩ (fun u hu => ?_)⟩, hr⟩, xk_uI (E := fun i => i = b) (xk_refl _ w) (Or.inl rfl)⟩
  · rcases hk with ⟨g1, g2, g3, g4⟩ | ⟨g1, g2, g3, g4⟩ | ⟨g1, g2, g3, g4⟩ <;> subst g1 g2
    · rw [x_uI, if_pos ⟨rfl, rfl⟩]
    · rw [x_uI, if_neg (by omega)]; exact h0.1
    · rw [x_uI, if_neg (by omega)]; exact h0.1
  · rcases hk with ⟨g1, g2, g3, g4⟩ | ⟨g1, g2, g3, g4⟩ | ⟨g1, g2, g3, g4⟩ <;> subst g1 g3
    · rw [x_uI, if_neg (by omega)]; exact h0.2.1
    · rw [x_uI, if_pos ⟨rfl, rfl⟩]
    · rw [x_uI, if_neg (by omega)]; exact h0.2.1
  · rcases hk with ⟨g1, g2, g3, g4⟩ | ⟨g1, g2, g3, g4⟩ | ⟨g1, g2, g3, g4⟩ <;> subst g1 g4
    · rw [x_uI, if_neg (by omega)]; exact h0.2.2.1
    · rw [x_uI, if_neg (by omega)]; exact h0.2.2.1
    · rw [x_uI, if_pos ⟨rfl, rfl⟩]
  · rw [x_uI, if_neg (by omega)]; exact h0.2.2.2
  · rw [x_uI, if_neg (by omega), x_uI, if_neg (by omega), x_uI, if_neg (by omega)]; exact g9 u hu
set_option maxHeartbeats 4000000 in
/-- from the word field on -/
theorem x_all2 {b : Nat} {w0 : xw} (hb0 : b ≤ xN w0) (hq : xqb b w0 w) (hz : XZ T 0 w) (hto : XTo 0 0 tbZ 0 b w) (hop : xI w 341 4 = nI 0) (hb : 60 * (T.length + 19) ≤ (xB w).1 ∧ 5500 * (T.length + 19) ≤ (xB w).2)
    (qe : ∀ kd pl, boP T = .inl (kd, pl) → ∀ w', xqb b w0 w' → XBad kd pl w' → (xS w' 342).1 = 4 → Qx 342 w')
    (qo : ∀ wd hg t n, boP T = .inr (wd, hg, t, n) → ∀ w', xqb b w0 w' → XTo wd hg t n b w' → Q (some (.ref b)) w') {o1 : Option Value} :
    (xS w 341).1 = 3 ∧ ∃ C S : Nat, (C ≤ (xB w).1 ∧ S ≤ (xB w).2) ∧ V_X2_word [.ref 341, .ref 10] (xSetB w (C, S)) (fun v w1 => T_X2_all Qx Q 32 [some (.ref 341), o1, none] (v.toList ++ []) (xSetB w1 ((xB w).1 - C, (xB w).2 - S))) (fun q w1 => Qx q (xSetB w1 ((xB w).1 - C, (xB w).2 - S))) := by
  have hN := XZ_n hz
  have hbb := XTB_b hto.1
  have wn := wn_le (XZw_s (XZs_of hz))
  have h0l : (0 : Nat) ≤ T.length := Nat.zero_le _
  have efi : fiP T = if hereB T 0 (wT 10) = true then match numP T (sk T 0 + 5) 3 7 with
    | .inl e => .inl e
    | .inr (w, a1) => match numP T a1 3 7 with
      | .inl e => .inl e
      | .inr (h, a2) => if w * h ≤ 36 then (if chB T (sk T a2) 59 = true then .inr (w, h, sk T a2 + 1) else .inl (1, sk T a2)) else .inl (2, sk T a1)
      else .inl (1, sk T 0) := rfl
  have ebo : boP T = match fiP T with
    | .inl e => .inl e
    | .inr (w, hg, a) => match stsP T w hg 79 tbZ a with
      | .inl e => .inl e
      | .inr (t, n) => .inr (w, hg, t, n) := rfl
  refine ⟨hz.1.1.1.1, 3, 3210, ⟨by omega, by omega⟩, x_wordS (w := xSetB w (3, 3210)) (k := 10) hz (by omega) (by omega) ⟨Nat.le_refl _, wn⟩ (fun hh w1 f1 e1 s1 => ?_) (fun hh w1 f1 z1 fr1 op1 _ => r_X2_all_32 ?_)⟩
  · exact qe 1 (sk T 0) (by rw [ebo, efi, hh]; rfl) _ (xqb_q2 hq (w1 := w) f1 hb0) e1 s1
  have hw := here_w (k := 10) (by omega) (by omega) h0l hh
  have e5 : (wT 10).length = 5 := rfl
  rw [e5] at hw
  rw [hw.1] at z1
  rw [if_pos hh] at efi
  have f1 : xq w w1 := f1
  have q1 := xqb_q2 hq f1 hb0
  have to1 := XTo_q hto f1 hN
  have z1 : XZ T (sk T 0 + 5) w1 := z1
  have op1 : xI w1 341 4 = nI 0 := Eq.trans (b := xI w 341 4) op1 hop
  have n1 := f1.1
  have r1B : ∀ B, xR (xSetB w1 B) 341 5 = b := fun _ => to1.2
  rw [r1B]
  refine ⟨z1.1.1.1.1, by omega, z1.1.1.1.1, 0, 0, ⟨Nat.zero_le _, Nat.zero_le _⟩, x_number (w := xSetB (xSetB w1 _) (0, 0)) (lo := 3) (hi := 7) z1 rfl rfl (by omega) (by omega) (fun kd pl hn w2 f2 e2 s2 => ?_) (fun v a1 hn w2 f2 z2 fr2 b2 => r_X2_all_43 ?_)⟩
  · exact qe kd pl (by rw [ebo, efi]; simp only [hn]) _ (xqb_q2 q1 (w1 := w1) f2 hb0) e2 s2
  simp only [hn] at efi
  have f2 : fR w1 w2 := f2
  have q2 := xqb_q2 q1 (xq_f f2) hb0
  have to2 := XTo_q to1 (xq_f f2) (XZ_n z1)
  have z2 : XZ T a1 w2 := z2
  have op2 : xI w2 341 4 = nI 0 := by rw [f2.2.2 341 4 (by omega) (by omega)]; exact op1
  have n2 : xN w2 = xN w1 := f2.1.1
  have nl := num_le (by omega) hn
  -- wide
  obtain ⟨to3, k3⟩ := XTo_n (k := 0) (v := v) (wd' := v) (hg' := 0) (n' := 0) to2 (Or.inl ⟨rfl, rfl, rfl, rfl⟩)
  have z3 : XZ T a1 (xUpI w2 b 0 (nI v)) := XZ_k z2 k3 (fun i hi => by omega)
  have q3 : xqb b w0 (xUpI w2 b 0 (nI v)) := xqb_trans q2 (xqb_k k3 (fun i hi => by omega) (by omega))
  have op3 : xI (xUpI w2 b 0 (nI v)) 341 4 = nI 0 := by rw [x_uI, if_neg (by omega)]; exact op2
  have r3B : ∀ B, xR (xUpI (xSetB w2 B) b 0 (nI v)) 341 5 = b := fun _ => to2.2
  have i3B : ∀ B, xI (xUpI (xSetB w2 B) b 0 (nI v)) b 0 = nI v := fun _ => if_pos ⟨rfl, rfl⟩
  have s2b : (xS w2 b).1 = 2 := (XTB_b to2.1).2.2
  rw [r3B, i3B, show (nI v = (0 : Int32)) ↔ v = 0 from n_eq (b := 0) (by omega) (by omega), show (36 : Int32) / nI v = nI (36 / v) from n_div (a := 36) (b := v) (by omega) (by omega)]
  have d36 : 36 / v ≤ 36 := Nat.div_le_self _ _
  refine ⟨s2b, by omega, z2.1.1.1.1, by omega, z2.1.1.1.1, by omega, s2b, by omega, x_min (a := 7) (b := 36 / v) (by omega) (by omega) (r_X2_all_67 ⟨z2.1.1.1.1, 0, 0, ⟨Nat.zero_le _, Nat.zero_le _⟩, x_number (w := xSetB (xUpI (xSetB w2 _) b 0 (nI v)) (0, 0)) (lo := 3) (hi := min 7 (36 / v)) z3 rfl rfl (by omega) (by omega) (fun kd pl hn2 w4 f4 e4 s4 => ?_) (fun h a2 hn2 w4 f4 z4 fr4 b4 => r_X2_all_70 ?_)⟩)⟩
  · rw [num_hi ⟨by omega, by omega⟩] at hn2
    refine qe kd pl ?_ _ (xqb_q2 q3 f4 hb0) e4 s4
    rw [ebo, efi]
    cases h9 : numP T a1 3 7 with
    | inl e => simp only [h9] at hn2 ⊢; cases hn2; rfl
    | inr q9 =>
      obtain ⟨h, a2⟩ := q9
      simp only [h9] at hn2 ⊢
      split at hn2
      · cases hn2
      · rename_i c9
        rw [if_neg c9]; cases hn2; rfl
  rw [num_hi ⟨by omega, by omega⟩] at hn2
  obtain ⟨h9, hvh⟩ : numP T a1 3 7 = .inr (h, a2) ∧ v * h ≤ 36 := by
    cases h9 : numP T a1 3 7 with
    | inl e => rw [h9] at hn2; cases hn2
    | inr q9 =>
      obtain ⟨h', a2'⟩ := q9
      simp only [h9] at hn2
      split at hn2
      · rename_i c9
        cases hn2; exact ⟨rfl, c9⟩
      · cases hn2
  have nl2 := num_le nl.1 h9
  simp only [h9] at efi
  rw [if_pos hvh] at efi
  have f4 : fR (xUpI w2 b 0 (nI v)) w4 := f4
  have q4 := xqb_q2 q3 (xq_f f4) hb0
  have to4 := XTo_q to3 (xq_f f4) (XZ_n z3)
  have z4 : XZ T a2 w4 := z4
  have op4 : xI w4 341 4 = nI 0 := by rw [f4.2.2 341 4 (by omega) (by omega)]; exact op3
  have n4 : xN w4 = xN w2 := f4.1.1
  have hf : fOk v h := ⟨by omega, by omega, hvh⟩
  -- high
  obtain ⟨to5, k5⟩ := XTo_n (k := 1) (v := h) (wd' := v) (hg' := h) (n' := 0) to4 (Or.inr (Or.inl ⟨rfl, rfl, rfl, rfl⟩))
  have z5 : XZ T a2 (xUpI w4 b 1 (nI h)) := XZ_k z4 k5 (fun i hi => by omega)
  have q5 : xqb b w0 (xUpI w4 b 1 (nI h)) := xqb_trans q4 (xqb_k k5 (fun i hi => by omega) (by omega))
  have op5 : xI (xUpI w4 b 1 (nI h)) 341 4 = nI 0 := by rw [x_uI, if_neg (by omega)]; exact op4
  have s4b : (xS w4 b).1 = 2 := (XTB_b to4.1).2.2
  refine ⟨s4b, by omega, z4.1.1.1.1, 0, 0, ⟨Nat.zero_le _, Nat.zero_le _⟩, x_mustW (w := xSetB (xUpI (xSetB w4 _) b 1 (nI h)) (0, 0)) (XZw_s (XZs_of z5)) (c := 59) rfl (by omega) (fun h5 w6 f6 e6 s6 => ?_) (fun h5 w6 f6 z6 o6 k6 => r_X2_all_79 ?_)⟩
  · exact qe 1 (sk T a2) (by rw [ebo, efi, if_neg (by rw [h5]; decide)]) _ (xqb_q2 q5 f6 hb0) e6 s6
  rw [if_pos h5] at efi
  have hlt := chB_lt h5
  have f6 : xq (xUpI w4 b 1 (nI h)) w6 := f6
  have q6 := xqb_q2 q5 f6 hb0
  have to6 := XTo_q to5 f6 (XZ_n z5)
  have z6 : XZ T (sk T a2 + 1) w6 := z6
  have op6 : xI w6 341 4 = nI 0 := o6.trans op5
  have n6 : xN w4 ≤ xN w6 := f6.1
  obtain ⟨to7, k7⟩ := XTo_n (k := 2) (v := 1) (wd' := v) (hg' := h) (n' := 1) to6 (Or.inr (Or.inr ⟨rfl, rfl, rfl, rfl⟩))
  have z7 : XZ T (sk T a2 + 1) (xUpI w6 b 2 (nI 1)) := XZ_k z6 k7 (fun i hi => by omega)
  have q7 : xqb b w0 (xUpI w6 b 2 (nI 1)) := xqb_trans q6 (xqb_k k7 (fun i hi => by omega) (by omega))
  have op7 : xI (xUpI w6 b 2 (nI 1)) 341 4 = nI 0 := by rw [x_uI, if_neg (by omega)]; exact op6
  have r6B : ∀ B, xR (xSetB w6 B) 341 5 = b := fun _ => to6.2
  rw [r6B]
  have sg := sk_ge T a2
  have sg0 := sk_ge T (0 : Nat)
  refine ⟨z6.1.1.1.1, by omega, (XTB_b to6.1).2.2, by omega, x_sts (T := T) hf hb0 79 1 tbZ (sk T a2 + 1) (xUpI (xSetB w6 ((xB w).1 - 3 - 0 - 0 - 0, (xB w).2 - 3210 - 0 - 0 - 0)) b 2 (nI 1)) (by omega) q7 (XZw_s (XZs_of z7)) to7 tbZ_ok op7 ?_ (fun kd pl hs w' f' e' s' => qe kd pl (by rw [ebo, efi]; simp only [hs]) w' f' e' s') (fun t n hs w' f' t' => qo v h t n (by rw [ebo, efi]; simp only [hs]) w' f' t')⟩
  show 60 * _ ≤ (xB w).1 - 3 - 0 - 0 - 0 ∧ 5500 * _ ≤ (xB w).2 - 3210 - 0 - 0 - 0
  omega
end
