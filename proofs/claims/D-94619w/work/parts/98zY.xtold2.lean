/-! X: a statement that is told -/
section
variable {T : List Nat} {Q : Option Value → xw → Prop} {Qx : Nat → xw → Prop} {w : xw}
set_option maxHeartbeats 4000000 in
theorem x_told {a wd hg n b s : Nat} {t : TB} {KL RL : List Nat} {A D lim : Nat} {w0 : xw} {x : Int32} (ha : a ≤ T.length) (hz : XZ T (wl T (sk T a)) w) (hw : isWd T (sk T a) = true) (hS : XStr (wB T (sk T a)) s w) (hh0 : xI w s 2 = 0 ∧ xI w s 3 = 0) (hs : lim ≤ s ∧ b + 83 ≤ s ∧ s ≠ A ∧ s ≠ D) (hop : xI w 341 4 = nI 0) (hq0 : xqb b w0 w) (hb0 : b ≤ xN w0) (htx : XTx wd hg t n b KL RL A D lim w) (hlim : lim ≤ xN w) (hr : xR w 341 5 = b) (ht : tOk t) (hf : fOk wd hg) (hx : x = nI (sk T a))
    (hb : 60 * (eS T (stP T wd hg t a) - wl T (sk T a)) + 40 ≤ (xB w).1 ∧ 5500 * (eS T (stP T wd hg t a) - wl T (sk T a)) + 15000 ≤ (xB w).2)
    (qe : ∀ kd pl, stP T wd hg t a = .inl (kd, pl) → ∀ w', xqb b w0 w' → XBad kd pl w' → (xS w' 342).1 = 4 → Qx 342 w')
    (qx : ∀ t' a1, stP T wd hg t a = .inr (t', a1) → chB T (sk T a1) 59 = false → ∀ w', xqb b w0 w' → XBad 1 (sk T a1) w' → (xS w' 342).1 = 4 → Qx 342 w')
    (qo : ∀ t' a1, stP T wd hg t a = .inr (t', a1) → ∀ w', xqb b w0 w' → XZw T a1 w' → XTo wd hg t' n b w' → xI w' 341 4 = nI 0 → Q none w') : V_X2_told [.ref 341, .ref s, .int x] w Q Qx := by
  subst hx
  have hsk := sk_is T ha
  have hbb := XTx_b htx
  have hh := fun k => here_is (T := T) (a := a) (k := k) hw
  have l16 := hz.1.1.2.2.2.2.1.1
  have sne : xR w s 0 ≠ s := fun z => by
    have h1 := hS.1.1
    have h2 := hS.2.2.2.1
    rw [z] at h2; rw [h2] at h1; exact absurd (show (54 : Nat) = 18 from h1) (by decide)
  refine e_X2_told (r_X2_told_0 ⟨hS.1.1, x_hash hS (by omega) hh0 (fun j v hj => r_X2_told_9 ?_)⟩)
  have kU : xk (fun i => i = s) w (xUpI w s j v) := xk_uI (E := fun i => i = s) (xk_refl _ w) (Or.inl rfl)
  have b1 : xB (xUpI w s j v) = xB w := rfl
  have S1 : XStr (wB T (sk T a)) s (xUpI w s j v) := by
    obtain ⟨c1, c2, c3, c4, c5, c6, c7⟩ := hS
    refine ⟨c1, ?_, c3, c4, fun u hu => ?_, c6, c7⟩
    · rw [x_uI, if_neg (by omega)]; exact c2
    · show xI (xUpI w s j v) (xR w s 0) u = _
      rw [x_uI, if_neg (fun z => sne z.1)]; exact c5 u hu
  have z1 : XZ T (wl T (sk T a)) (xUpI w s j v) := XZ_k hz kU (fun i hi => by omega)
  have tx1 : XTx wd hg t n b KL RL A D lim (xUpI w s j v) := XTx_f htx hlim kU (fun i hi => by omega)
  have op1 : xI (xUpI w s j v) 341 4 = nI 0 := by rw [x_uI, if_neg (by omega)]; exact hop
  have q1 : xqb b w0 (xUpI w s j v) := xqb_trans hq0 (xqb_k kU (fun i hi => by omega) (by omega))
  have r1 : xR (xUpI w s j v) 341 5 = b := hr
  have n1 : xN (xUpI w s j v) = xN w := rfl
  generalize xUpI w s j v = w1 at *
  rw [← b1] at hb
  have to1 : XTo wd hg t n b w1 := ⟨⟨KL, RL, A, D, lim, by omega, tx1⟩, r1⟩
  have rb4 : xR w1 b 4 = b + 1 := tx1.1.2.1.1
  have rb5 : xR w1 b 5 = b + 3 := tx1.1.2.1.2.1
  have s341 := z1.1.1.1.1
  have hK1 : (tK t).length ≤ 5 := ht.1
  have hR1 : (tR t).length ≤ 6 := ht.2.2.2.2.2
  have hN1 : tN t ≤ 20 := ht.2.2.2.2.1
  obtain ⟨_, _, h0, ⟨_, _, ⟨cA, hA⟩, cD, hD⟩, ⟨k1, _⟩, ⟨rl1, _⟩, g⟩ := id tx1
  have epos : ∀ k, 10 ≤ k → k < 32 → hereB T a (wT k) = true → wl T (sk T a) = sk T a + (wT k).length := fun k k1 k2 hk => (here_w k1 k2 ha hk).1
  have one : ∀ i j, (10 ≤ i ∧ i < 32) → (10 ≤ j ∧ j < 32) → i ≠ j → hereB T a (wT i) = true → hereB T a (wT j) = false := fun i j h1 h2 h3 h4 => here_one h1 h2 h3 h4
  have estP : stP T wd hg t a = if hereB T a (wT 11) = true then kindP T t (sk T a) (sk T a + 4)
    else if hereB T a (wT 16) = true then stoP T wd hg t (sk T a) (sk T a + 5)
    else if hereB T a (wT 20) = true then lanP T wd hg t (sk T a + 4)
    else if hereB T a (wT 21) = true then ruP T t (sk T a) (sk T a + 5)
    else .inl (1, sk T a) := rfl
  -- no such word
  have dW : hereB T a (wT 11) = false → hereB T a (wT 16) = false → hereB T a (wT 20) = false → hereB T a (wT 21) = false → ∀ l3, toldD Qx Q w1 (nI (sk T a)) (-1) l3 := fun c1 c2 c3 c4 l3 => by
    rw [c1, c2, c3, c4] at estP
    have estP : stP T wd hg t a = .inl (1, sk T a) := estP
    exact ⟨fun _ => ⟨s341, x_wrong z1.1.1 (kd := 1) (pl := sk T a) rfl rfl (fun w2 f2 b2 e2 s2 _ => r_X2_told_299 ⟨s2, qe 1 (sk T a) estP w2 (xqb_q2 q1 (xq_f f2) hb0) e2 s2⟩)⟩, fun z => absurd z (by decide), fun z => absurd z (by decide), fun z => absurd z (by decide), fun z => absurd z (by decide), trivial⟩
  have dK : hereB T a (wT 11) = true → ∀ l3, toldD Qx Q w1 (nI (sk T a)) 0 l3 := fun c1 l3 => by
    rw [if_pos c1] at estP
    have ew := epos 11 (by omega) (by omega) c1
    have e4 : (wT 11).length = 4 := rfl
    rw [e4] at ew
    rw [ew] at z1 hb
    rw [estP] at hb qe qx qo
    have zw := XZw_s (XZs_of z1)
    have wn := wn_le zw
    unfold toldD
    rw [r1, rb4]
    refine ⟨fun z => absurd z (by decide), fun _ => ⟨s341, by omega, hbb.2.2 ▸ tx1.1.1.1, by omega, hA.1.1, x_lsize hA (r_X2_told_153 ?_)⟩, fun z => absurd z (by decide), fun z => absurd z (by decide), fun z => absurd z (by decide), trivial⟩
    rw [k1, show (nI (tK t).length = (5 : Int32)) ↔ (tK t).length = 5 from n_eq (b := 5) (by omega) (by omega)]
    unfold kindP at qe qx qo
    refine ⟨fun h5 => ⟨s341, 0, 0, ⟨Nat.zero_le _, Nat.zero_le _⟩, x_most (T := T) (w := xSetB w1 (0, 0)) (b := false) (pl := sk T a) z1.1.1 rfl rfl (fun z => by cases z) (fun _ => r_X2_told_166 ⟨s341, (xB w1).1, (xB w1).2, ⟨Nat.le_refl _, Nat.le_refl _⟩, ?_⟩)⟩, fun h5 => ⟨s341, 0, 0, ⟨Nat.zero_le _, Nat.zero_le _⟩, x_most (T := T) (w := xSetB w1 (0, 0)) (b := true) (pl := sk T a) z1.1.1 rfl rfl (fun _ w2 f2 e2 s2 => ?_) (fun z => by cases z)⟩⟩
    · rw [if_neg h5] at qe qx qo
      refine x_kindT (w := xSetB w1 ((xB w1).1, (xB w1).2)) zw q1 hb0 to1 (by omega) ⟨by show 30 ≤ (xB w1).1; omega, by show _ ≤ (xB w1).2; omega⟩ (fun kd pl hk w' f' e' s' => qe kd pl (by simp only [hk]) _ f' e' s') (fun q a1 hk h59 w' f' e' s' => qx (tK t ++ [q], tS t, tL t, tN t, tR t) a1 (by simp only [hk]) h59 _ f' e' s') (fun q a1 hk w' f' z' t' o' => r_X2_told_170 ⟨rfl, qo (tK t ++ [q], tS t, tL t, tN t, tR t) a1 (by simp only [hk]) _ f' z' t' (o'.trans op1)⟩)
    · exact qe 5 (sk T a) (if_pos (Decidable.not_not.mp h5)) _ (xqb_q2 q1 (w1 := w1) (xq_f f2) hb0) e2 s2
  have dS : hereB T a (wT 16) = true → ∀ l3, toldD Qx Q w1 (nI (sk T a)) 1 l3 := fun c1 l3 => by
    rw [one 16 11 (by omega) (by omega) (by omega) c1, if_neg (by decide), if_pos c1] at estP
    have ew := epos 16 (by omega) (by omega) c1
    have e4 : (wT 16).length = 5 := rfl
    rw [e4] at ew
    rw [ew] at z1 hb
    rw [estP] at hb qe qx qo
    have zw := XZw_s (XZs_of z1)
    unfold toldD
    rw [r1, h0.2.2.2, show (nI (tN t) = (20 : Int32)) ↔ tN t = 20 from n_eq (b := 20) (by omega) (by omega)]
    refine ⟨fun z => absurd z (by decide), fun z => absurd z (by decide), fun _ => ⟨s341, by omega, tx1.1.1.1, fun h5 => ⟨s341, 0, 0, ⟨Nat.zero_le _, Nat.zero_le _⟩, x_most (T := T) (w := xSetB w1 (0, 0)) (b := false) (pl := sk T a) z1.1.1 rfl rfl (fun z => by cases z) (fun _ => r_X2_told_195 ⟨s341, (xB w1).1, (xB w1).2, ⟨Nat.le_refl _, Nat.le_refl _⟩, ?_⟩)⟩, fun h5 => ⟨s341, 0, 0, ⟨Nat.zero_le _, Nat.zero_le _⟩, x_most (T := T) (w := xSetB w1 (0, 0)) (b := true) (pl := sk T a) z1.1.1 rfl rfl (fun _ w2 f2 e2 s2 => ?_) (fun z => by cases z)⟩⟩, fun z => absurd z (by decide), fun z => absurd z (by decide), trivial⟩
    · exact x_stoneT (w := xSetB w1 ((xB w1).1, (xB w1).2)) zw q1 hb0 to1 ht hf h5 ⟨by show 9 ≤ (xB w1).1; omega, by show 9700 ≤ (xB w1).2; omega⟩ (fun kd pl hk w' f' e' s' => qe kd pl hk _ f' e' s') (fun t' a1 hk w' f' z' t9 o' => r_X2_told_199 ⟨rfl, qo _ a1 hk _ f' z' t9 (o'.trans op1)⟩)
    · exact qe 5 (sk T a) (by unfold stoP; rw [if_pos (Decidable.not_not.mp h5)]) _ (xqb_q2 q1 (w1 := w1) (xq_f f2) hb0) e2 s2
  have dL : hereB T a (wT 20) = true → ∀ l3, toldD Qx Q w1 (nI (sk T a)) 2 l3 := fun c1 l3 => by
    rw [one 20 11 (by omega) (by omega) (by omega) c1, one 20 16 (by omega) (by omega) (by omega) c1, if_neg (by decide), if_neg (by decide), if_pos c1] at estP
    have ew := epos 20 (by omega) (by omega) c1
    have e4 : (wT 20).length = 4 := rfl
    rw [e4] at ew
    rw [ew] at z1 hb
    rw [estP] at hb qe qx qo
    have zw := XZw_s (XZs_of z1)
    have wn := wn_le zw
    unfold lanP ldP at qe qo
    refine ⟨fun z => absurd z (by decide), fun z => absurd z (by decide), fun z => absurd z (by decide), fun _ => ⟨s341, 3, 3210, ⟨by omega, by omega⟩, x_sideT (w := xSetB w1 (3, 3210)) zw ⟨Nat.le_refl _, wn⟩ (fun kd pl hd w2 f2 e2 s2 => qe kd pl (by simp only [hd]) _ (xqb_q2 q1 (w1 := w1) f2 hb0) e2 s2) (fun v a1 hd w2 f2 z2 op2 => r_X2_told_206 ?_)⟩, fun z => absurd z (by decide), trivial⟩
    simp only [hd] at qe qo
    have f2 : xq w1 w2 := f2
    have q2 : xqb b w0 w2 := xqb_q2 q1 f2 hb0
    have to2 := XTo_q to1 f2 (XZ_n z1)
    have tx2 := XTx_q tx1 (by omega) f2
    have z2 : XZ T a1 w2 := z2
    have op2 : xI w2 341 4 = nI 0 := Eq.trans (b := xI w1 341 4) op2 op1
    have zw2 : XZw T a1 w2 := XZw_s (XZs_of z2)
    have hw2 := wn_le zw2
    have hv2 := sd_lt hd
    have r2B : ∀ B, xR (xSetB w2 B) 341 5 = b := fun _ => to2.2
    have r28 : ∀ B, xR (xSetB w2 B) b 8 = b + 7 := fun _ => tx2.1.2.1.2.2.2.2.1
    rw [r2B, r28]
    refine ⟨z2.1.1.1.1, by omega, tx2.1.1.1, by omega, z2.1.1.1.1, 3, 3210, ⟨by show 3 ≤ (xB w1).1 - 3; omega, by show 3210 ≤ (xB w1).2 - 3210; omega⟩, x_placeT (w := xSetB (xSetB w2 _) (3, 3210)) zw2 to2 hf ⟨Nat.le_refl _, hw2⟩ (fun kd pl hp w3 f3 e3 s3 => qe kd pl (by simp only [hp]) _ (xqb_q2 q2 (w1 := w2) f3 hb0) e3 s3) (fun p a2 np hp w3 f3 z3 fr3 op3 => r_X2_told_219 ?_)⟩
    simp only [hp] at qe qo
    have f3 : xq w2 w3 := f3
    have q3 : xqb b w0 w3 := xqb_q2 q2 f3 hb0
    have n3 := f3.1
    have n2 := f2.1
    have tx3 := XTx_q tx2 (by omega) f3
    have to3 := XTo_q to2 f3 (XZ_n z2)
    have z3 : XZ T a2 w3 := z3
    have op3 : xI w3 341 4 = nI 0 := Eq.trans (b := xI w2 341 4) op3 op2
    have hpl : p < 36 := by
      have := plc_lt hf zw2.1 hp
      have := hf.2.2
      omega
    obtain ⟨hs3, _, h03, _, _, _, g3⟩ := id tx3
    have s7 : xS w3 (b + 7) = (51, 36) := hs3.2.2.1 2 (by omega)
    have s7B : ∀ B, xS (xSetB w3 B) (b + 7) = (51, 36) := fun _ => s7
    have hin : vp_in (nI p) (51, 36).2 := (n_in (a := p) (by omega)).mpr (by show p < 36; omega)
    rw [s7B, n_tn (by omega)]
    have b8 := hs3.1.2
    have k45 : xk (fun i => i = b ∨ i = b + 5 ∨ i = b + 6 ∨ i = b + 7) w3 (xUpI w3 (b + 7) p (nI v)) := xk_uI (E := fun i => i = b ∨ i = b + 5 ∨ i = b + 6 ∨ i = b + 7) (xk_refl _ w3) (Or.inl (by omega))
    refine ⟨rfl, by omega, hin, rfl, qo _ a2 rfl (xUpI (xSetB w3 _) (b + 7) p (nI v)) (xqb_trans q3 (xqb_k (w := w3) k45 (fun i hi => by omega) (by omega))) (XZw_k (w := w3) (XZw_s (XZs_of z3)) k45 (fun i hi => by omega)) ⟨⟨KL, RL, A, D, lim, by show lim ≤ xN w3; omega, XTx_e (w := w3) tx3 (by omega) k45 ⟨rfl, rfl⟩ rfl rfl ⟨?_, ?_, ?_, ?_⟩ (fun u hu => ?_)⟩, to3.2⟩ ?_⟩
    · rw [x_uI, if_neg (by omega)]; exact h03.1
    · rw [x_uI, if_neg (by omega)]; exact h03.2.1
    · rw [x_uI, if_neg (by omega)]; exact h03.2.2.1
    · rw [x_uI, if_neg (by omega)]; exact h03.2.2.2
    · have gu := g3 u hu
      have e1 : (tS (tK t, tS t, (fun u => if u = p then 1 + v else tL t u), tN t, tR t)) u = tS t u := rfl
      have e2 : (tL (tK t, tS t, (fun u => if u = p then 1 + v else tL t u), tN t, tR t)) u = if u = p then 1 + v else tL t u := rfl
      rw [e1, e2]
      refine ⟨?_, fun h => ?_, ?_⟩
      · rw [x_uI, if_neg (by omega)]; exact gu.1
      · rw [x_uI, if_neg (by omega)]; exact gu.2.1 h
      · by_cases c : u = p
        · rw [if_pos c, x_uI, if_pos ⟨rfl, c⟩]
          unfold ldI
          rw [if_neg (by omega), show 1 + v - 1 = v by omega]
        · rw [if_neg c, x_uI, if_neg (by omega)]; exact gu.2.2
    · show xI (xUpI w3 (b + 7) p (nI v)) 341 4 = _
      rw [x_uI, if_neg (by omega)]; exact op3
  have dR : hereB T a (wT 21) = true → ∀ l3, toldD Qx Q w1 (nI (sk T a)) 3 l3 := fun c1 l3 => by
    rw [one 21 11 (by omega) (by omega) (by omega) c1, one 21 16 (by omega) (by omega) (by omega) c1, one 21 20 (by omega) (by omega) (by omega) c1, if_neg (by decide), if_neg (by decide), if_neg (by decide), if_pos c1] at estP
    have ew := epos 21 (by omega) (by omega) c1
    have e4 : (wT 21).length = 5 := rfl
    rw [e4] at ew
    rw [ew] at z1 hb
    rw [estP] at hb qe qx qo
    unfold toldD
    rw [r1, rb5]
    refine ⟨fun z => absurd z (by decide), fun z => absurd z (by decide), fun z => absurd z (by decide), fun z => absurd z (by decide), fun _ => ⟨s341, by omega, tx1.1.1.1, by omega, hD.1.1, x_lsize hD (r_X2_told_238 ?_)⟩, trivial⟩
    rw [rl1, show (nI (tR t).length = (6 : Int32)) ↔ (tR t).length = 6 from n_eq (b := 6) (by omega) (by omega)]
    refine ⟨fun h5 => ⟨s341, 0, 0, ⟨Nat.zero_le _, Nat.zero_le _⟩, x_most (T := T) (w := xSetB w1 (0, 0)) (b := false) (pl := sk T a) z1.1.1 rfl rfl (fun z => by cases z) (fun _ => ?_)⟩, fun h5 => ⟨s341, 0, 0, ⟨Nat.zero_le _, Nat.zero_le _⟩, x_most (T := T) (w := xSetB w1 (0, 0)) (b := true) (pl := sk T a) z1.1.1 rfl rfl (fun _ w2 f2 e2 s2 => ?_) (fun z => by cases z)⟩⟩
    · exact x_ruleT (w := xSetB (xSetB w1 (0, 0)) ((xB w1).1 - 0, (xB w1).2 - 0)) (XZs_of z1) op1 q1 hb0 to1 (by omega) ⟨by show _ ≤ (xB w1).1 - 0; omega, by show _ ≤ (xB w1).2 - 0; omega⟩ qe qx qo
    · exact qe 5 (sk T a) (by unfold ruP; rw [if_pos (Decidable.not_not.mp h5)]) _ (xqb_q2 q1 (w1 := w1) (xq_f f2) hb0) e2 s2
  -- by the word's hash
  have hk11 : hF (wT 11) = 3292052 := by decide
  have hk16 : hF (wT 16) = 109770853 := by decide
  have hk20 : hF (wT 20) = 3314155 := by decide
  have hk21 : hF (wT 21) = 113319054 := by decide
  have no : ∀ k, hF (wB T (sk T a)) ≠ hF (wT k) → hereB T a (wT k) = false := fun k h => by
    rw [hh k]; exact decide_eq_false (fun e => h (by rw [e]))
  have K := fun k (k1 : 10 ≤ k) (k2 : k < 32) => (z1.2.1 k k1 k2).1
  have big : 256 ≤ s := by omega
  refine ⟨fun e => ⟨S1.1.1, x_eq S1 (K 11 (by omega) (by omega)) (Or.inl big) (r_X2_told_58 ?_)⟩, fun e1 => ⟨fun e => ⟨S1.1.1, x_eq S1 (K 20 (by omega) (by omega)) (Or.inl big) (r_X2_told_88 ?_)⟩, fun e2 => ⟨fun e => ⟨S1.1.1, x_eq S1 (K 16 (by omega) (by omega)) (Or.inl big) (r_X2_told_73 ?_)⟩, fun e3 => ⟨fun e => ⟨S1.1.1, x_eq S1 (K 21 (by omega) (by omega)) (Or.inl big) (r_X2_told_103 ?_)⟩, fun e4 => dW (no 11 (by rw [hk11]; exact e1)) (no 16 (by rw [hk16]; exact e3)) (no 20 (by rw [hk20]; exact e2)) (no 21 (by rw [hk21]; exact e4)) _⟩⟩⟩⟩
  · rw [← hh 11]
    exact ⟨fun z => dW (bI_e0 z) (no 16 (by rw [hk16, e]; decide)) (no 20 (by rw [hk20, e]; decide)) (no 21 (by rw [hk21, e]; decide)) _, fun z => dK (bI_n0 z) _⟩
  · rw [← hh 20]
    exact ⟨fun z => dW (no 11 (by rw [hk11, e]; decide)) (no 16 (by rw [hk16, e]; decide)) (bI_e0 z) (no 21 (by rw [hk21, e]; decide)) _, fun z => dL (bI_n0 z) _⟩
  · rw [← hh 16]
    exact ⟨fun z => dW (no 11 (by rw [hk11, e]; decide)) (bI_e0 z) (no 20 (by rw [hk20, e]; decide)) (no 21 (by rw [hk21, e]; decide)) _, fun z => dS (bI_n0 z) _⟩
  · rw [← hh 21]
    exact ⟨fun z => dW (no 11 (by rw [hk11, e]; decide)) (no 16 (by rw [hk16, e]; decide)) (no 20 (by rw [hk20, e]; decide)) (bI_e0 z) _, fun z => dR (bI_n0 z) _⟩
end
