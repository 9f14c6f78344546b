/-! X: stones, rules, statements that are told -/
section
variable {T : List Nat} {Q : Option Value → xw → Prop} {Qx : Nat → xw → Prop} {w : xw}
theorem fd_neg {o : Option Nat} (h : ∀ k, o = some k → k < 1000) : (fdI o = (-1 : Int32)) ↔ o = none := by
  cases o with
  | none => exact ⟨fun _ => rfl, fun _ => rfl⟩
  | some k =>
    have kl := h k rfl
    refine ⟨fun z => ?_, fun z => by cases z⟩
    have : (nI k).toInt = -1 := by rw [show nI k = -1 from z]; decide
    rw [n_T (by omega)] at this; omega
theorem wn_le {a : Nat} (h : XZw T a w) : 2 * (wl T (sk T a) - sk T a) + 10 ≤ 3210 := by
  have hal := h.1
  obtain ⟨_, b, _, z⟩ := h
  have l16 := z.1.1.2.2.2.2.1.1
  have hwl := (spL_is T isLe (sk T a) (sk_le T hal))
  have ewl : spL T isLe (sk T a) = wl T (sk T a) := rfl
  rw [ewl] at hwl
  omega
theorem sd_neg {v : Nat} : (sdI v = (-1 : Int32)) ↔ v = 0 := by
  unfold sdI
  by_cases c : v = 0
  · rw [if_pos c]; exact ⟨fun _ => c, fun _ => rfl⟩
  · rw [if_neg c]
    refine ⟨fun z => ?_, fun z => absurd z c⟩
    have : (nI (v % 2)).toInt = -1 := by rw [z]; decide
    rw [n_T (by omega)] at this; omega
set_option maxHeartbeats 2000000 in
theorem x_stoneT {a wd hg n b pb : Nat} {t : TB} {w0 : xw} (hz : XZw T a w) (hq0 : xqb b w0 w) (hb0 : b ≤ xN w0) (hto : XTo wd hg t n b w) (ht : tOk t) (hf : fOk wd hg) (hn20 : tN t ≠ 20) (hb : 9 ≤ (xB w).1 ∧ 9700 ≤ (xB w).2)
    (qe : ∀ kd pl, stoP T wd hg t pb a = .inl (kd, pl) → ∀ w', xqb b w0 w' → XBad kd pl w' → (xS w' 342).1 = 4 → Qx 342 w')
    (qo : ∀ t' a1, stoP T wd hg t pb a = .inr (t', a1) → ∀ w', xqb b w0 w' → XZw T a1 w' → XTo wd hg t' n b w' → xI w' 341 4 = xI w 341 4 → Q none w') : V_X2_stone [.ref 341] w Q Qx := by
  have hal := hz.1
  have hN := XZw_n hz
  have hsk := sk_is T hal
  have hbb := XTB_b hto.1
  have s341 : (xS w 341).1 = 3 := by obtain ⟨_, b, _, z⟩ := hz; exact z.1.1.1.1
  have hw0 := wn_le hz
  unfold stoP at qe qo
  rw [if_neg hn20] at qe qo
  refine e_X2_stone (r_X2_stone_0 ⟨s341, 3, 3210, ⟨by omega, by omega⟩, x_nameW (w := xSetB w (3, 3210)) hz ⟨Nat.le_refl _, hw0⟩ (fun kd pl hn w1 f1 e1 s1 => qe kd pl (by simp only [hn]) _ (xqb_q2 hq0 (w1 := w) f1 hb0) e1 s1) (fun e hn w1 f1 z1 fr1 op1 S1' ar1 => r_X2_stone_5 ⟨z1.1.1.1.1, ?_⟩)⟩)
  simp only [hn] at qe qo
  have f1 : xq w w1 := f1
  have nn1 := f1.1
  have q1 : xqb b w0 w1 := xqb_q2 hq0 f1 hb0
  have to1 := XTo_q hto f1 hN
  have S1' : XStr (wB T (sk T a)) (xN w + 1) w1 := S1'
  have z1 : XZ T e w1 := z1
  have fr1 : xI w1 341 3 = nI (sk T a) := fr1
  have op1 : xI w1 341 4 = xI w 341 4 := op1
  have nmo := nm_ok hal hn
  have ee : e = wl T (sk T a) := by
    unfold nmP at hn
    split at hn
    · split at hn
      · cases hn
      · cases hn; rfl
    · cases hn
  refine x_kindOf (w := xSetB w1 _) z1.1.1.1.1 to1 ht.1 hsk.2 S1' (by show 256 ≤ xN w + 1; omega) (r_X2_stone_8 ?_)
  rw [← ee]
  have hlt : ∀ k, kdL (tK t) (wdL T (sk T a) (e - sk T a)) = some k → k < (tK t).length := fun k hk => kdL_lt hk
  rw [fd_neg (fun k hk => by have := hlt k hk; have := ht.1; omega)]
  have frB : ∀ B, xI (xSetB w1 B) 341 3 = nI (sk T a) := fun _ => fr1
  rw [frB]
  have zw1 : XZw T e w1 := XZw_s (XZs_of z1)
  have hw1 := wn_le zw1
  refine ⟨fun hk0 => ?_, fun hk0 => ⟨z1.1.1.1.1, z1.1.1.1.1, x_wrong (T := T) (kd := 3) (pl := sk T a) (by exact z1.1.1) rfl rfl (fun w2 f2 b2 e2 s2 _ => r_X2_stone_23 ⟨s2, qe 3 (sk T a) (by simp only [Decidable.not_not.mp hk0]) w2 (xqb_q2 q1 (xq_f (w := w1) f2) hb0) e2 s2⟩)⟩⟩
  obtain ⟨k, hk⟩ : ∃ k, kdL (tK t) (wdL T (sk T a) (e - sk T a)) = some k := by
    cases h9 : kdL (tK t) (wdL T (sk T a) (e - sk T a)) with
    | none => exact absurd h9 hk0
    | some k => exact ⟨k, rfl⟩
  have hkl := hlt k hk
  simp only [hk] at qe qo
  rw [hk]
  refine ⟨z1.1.1.1.1, 3, 3210, ⟨by show 3 ≤ (xB w).1 - 3; omega, by show 3210 ≤ (xB w).2 - 3210; omega⟩, x_sideT (w := xSetB (xSetB w1 _) (3, 3210)) zw1 ⟨Nat.le_refl _, hw1⟩ (fun kd pl hd w2 f2 e2 s2 => qe kd pl (by simp only [hd]) _ (xqb_q2 q1 (w1 := w1) f2 hb0) e2 s2) (fun v a1 hd w2 f2 z2 op2 => r_X2_stone_28 ?_)⟩
  simp only [hd] at qe qo
  have f2 : xq w1 w2 := f2
  have nn2 := f2.1
  have q2 : xqb b w0 w2 := xqb_q2 q1 f2 hb0
  have to2 := XTo_q to1 f2 (XZ_n z1)
  have z2 : XZ T a1 w2 := z2
  have op2 : xI w2 341 4 = xI w 341 4 := Eq.trans (b := xI w1 341 4) op2 op1
  have zw2 : XZw T a1 w2 := XZw_s (XZs_of z2)
  have hw2 := wn_le zw2
  have hv2 := sd_lt hd
  refine ⟨z2.1.1.1.1, 3, 3210, ⟨by show 3 ≤ (xB w).1 - 3 - 3; omega, by show 3210 ≤ (xB w).2 - 3210 - 3210; omega⟩, x_placeT (w := xSetB (xSetB w2 _) (3, 3210)) zw2 to2 hf ⟨Nat.le_refl _, hw2⟩ (fun kd pl hp w3 f3 e3 s3 => qe kd pl (by simp only [hp]) _ (xqb_q2 q2 (w1 := w2) f3 hb0) e3 s3) (fun p a2 np hp w3 f3 z3 fr3 op3 => r_X2_stone_33 ?_)⟩
  simp only [hp] at qe qo
  have f3 : xq w2 w3 := f3
  have q3 : xqb b w0 w3 := xqb_q2 q2 f3 hb0
  have to3 := XTo_q to2 f3 (XZ_n z2)
  have z3 : XZ T a2 w3 := z3
  have fr3 : xI w3 341 3 = nI np := fr3
  have op3 : xI w3 341 4 = xI w 341 4 := Eq.trans (b := xI w2 341 4) op3 op2
  have hpl : p < 36 := by
    have := plc_lt hf zw2.1 hp
    have := hf.2.2
    omega
  obtain ⟨⟨KL, RL, A, D, lim, hlim, tx⟩, hr⟩ := id to3
  obtain ⟨hs, hzz, h0, hAD, hK, hR, g⟩ := id tx
  obtain ⟨⟨b1, b8, b83⟩, ⟨b4, b5, b6, b7, b9, _⟩, b10, _⟩ := id hs
  have rB : ∀ B, xR (xSetB w3 B) 341 5 = b := fun _ => hr
  have r6 : ∀ B, xR (xSetB w3 B) b 6 = b + 5 := fun _ => b6
  have r7 : ∀ B, xR (xSetB w3 B) b 7 = b + 6 := fun _ => b7
  have s5 : xS w3 (b + 5) = (51, 36) := b10 0 (by omega)
  have s6 : xS w3 (b + 6) = (51, 36) := b10 1 (by omega)
  have s5B : ∀ B, xS (xSetB w3 B) (b + 5) = (51, 36) := fun _ => s5
  have s6B : ∀ B, xS (xSetB w3 B) (b + 6) = (51, 36) := fun _ => s6
  have i5B : ∀ B, xI (xSetB w3 B) (b + 5) p = sdI (tS t p) := fun _ => (g p hpl).1
  have fB : ∀ B, xI (xSetB w3 B) 341 3 = nI np := fun _ => fr3
  have hin : vp_in (nI p) (51, 36).2 := (n_in (a := p) (by omega)).mpr (by show p < 36; omega)
  simp only [xR_uI, xS_uI, rB, r6, r7, s5B, s6B, n_tn (show p < 2147483648 by omega), i5B, sd_neg, fB]
  refine ⟨z3.1.1.1.1, by omega, b1, by omega, by trivial, hin, fun h9 => ⟨z3.1.1.1.1, by omega, b1, by omega, by trivial, by omega, hin, z3.1.1.1.1, by omega, b1, by omega, by trivial, by omega, hin, z3.1.1.1.1, by omega, b1, b1, by omega, by trivial, ?_⟩, fun h9 => ⟨z3.1.1.1.1, z3.1.1.1.1, x_wrong (T := T) (kd := 2) (pl := np) (by exact z3.1.1) rfl rfl (fun w4 f4 b4' e4 s4 _ => r_X2_stone_56 ⟨s4, qe 2 np (if_pos (by omega)) w4 (xqb_q2 q3 (xq_f (w := w3) f4) hb0) e4 s4⟩)⟩⟩
  have k45 : xk (fun i => i = b ∨ i = b + 5 ∨ i = b + 6 ∨ i = b + 7) w3 (xUpI (xUpI (xUpI w3 (b + 5) p (nI v)) (b + 6) p (nI k)) b 3 (nI (tN t + 1))) := xk_uI (E := fun i => i = b ∨ i = b + 5 ∨ i = b + 6 ∨ i = b + 7) (xk_uI (E := fun i => i = b ∨ i = b + 5 ∨ i = b + 6 ∨ i = b + 7) (xk_uI (E := fun i => i = b ∨ i = b + 5 ∨ i = b + 6 ∨ i = b + 7) (xk_refl _ w3) (Or.inl (by omega))) (Or.inl (by omega))) (Or.inl (by omega))
  have n3B : ∀ B, xI (xUpI (xUpI (xSetB w3 B) (b + 5) p (nI v)) (b + 6) p (fdI (some k))) b 3 + 1 = nI (tN t + 1) := fun B => by
    rw [x_uI, if_neg (by omega), x_uI, if_neg (by omega)]
    show xI w3 b 3 + 1 = _
    rw [h0.2.2.2]; exact n_add _ 1
  rw [n3B]
  refine qo _ a2 (if_neg (by omega)) (xUpI (xUpI (xUpI (xSetB w3 _) (b + 5) p (nI v)) (b + 6) p (nI k)) b 3 (nI (tN t + 1))) (xqb_trans q3 (xqb_k (w := w3) k45 (fun i hi => by omega) (by omega))) (XZw_k (w := w3) (XZw_s (XZs_of z3)) k45 (fun i hi => by omega)) ⟨⟨KL, RL, A, D, lim, hlim, XTx_e (w := w3) tx hlim k45 ⟨rfl, rfl⟩ rfl rfl ⟨?_, ?_, ?_, ?_⟩ (fun u hu => ?_)⟩, hr⟩ ?_
  · rw [x_uI, if_neg (by omega), x_uI, if_neg (by omega), x_uI, if_neg (by omega)]; exact h0.1
  · rw [x_uI, if_neg (by omega), x_uI, if_neg (by omega), x_uI, if_neg (by omega)]; exact h0.2.1
  · rw [x_uI, if_neg (by omega), x_uI, if_neg (by omega), x_uI, if_neg (by omega)]; exact h0.2.2.1
  · rw [x_uI, if_pos ⟨rfl, rfl⟩]; rfl
  · have gu := g u hu
    have e1 : (tS (tK t, (fun u => if u = p then 2 + 2 * k + v else tS t u), tL t, tN t + 1, tR t)) u = if u = p then 2 + 2 * k + v else tS t u := rfl
    have e2 : (tL (tK t, (fun u => if u = p then 2 + 2 * k + v else tS t u), tL t, tN t + 1, tR t)) u = tL t u := rfl
    rw [e1, e2]
    by_cases c : u = p
    · rw [if_pos c]
      refine ⟨?_, fun _ => ?_, ?_⟩
      · rw [x_uI, if_neg (by omega), x_uI, if_neg (by omega), x_uI, if_pos ⟨rfl, c⟩]
        unfold sdI
        rw [if_neg (by omega), show (2 + 2 * k + v) % 2 = v by omega]
      · rw [x_uI, if_neg (by omega), x_uI, if_pos ⟨rfl, c⟩, show (2 + 2 * k + v - 2) / 2 = k by omega]
      · rw [x_uI, if_neg (by omega), x_uI, if_neg (by omega), x_uI, if_neg (by omega)]; exact gu.2.2
    · rw [if_neg c]
      refine ⟨?_, fun h => ?_, ?_⟩
      · rw [x_uI, if_neg (by omega), x_uI, if_neg (by omega), x_uI, if_neg (by omega)]; exact gu.1
      · rw [x_uI, if_neg (by omega), x_uI, if_neg (by omega), x_uI, if_neg (by omega)]; exact gu.2.1 h
      · rw [x_uI, if_neg (by omega), x_uI, if_neg (by omega), x_uI, if_neg (by omega)]; exact gu.2.2
  · show xI (xUpI (xUpI (xUpI w3 (b + 5) p (nI v)) (b + 6) p (nI k)) b 3 (nI (tN t + 1))) 341 4 = _
    rw [x_uI, if_neg (by omega), x_uI, if_neg (by omega), x_uI, if_neg (by omega)]; exact op3
/-- the rules of the Border take one more -/
theorem x_radd {wd hg n b o : Nat} {t : TB} {KL RL : List Nat} {A D lim : Nat} {P : Nat → Prop} {r : List Nat × List Nat} (h : XTx wd hg t n b KL RL A D lim w) (hlim : lim ≤ xN w) (hl : (tR t).length ≤ 6) (ho : XRu P r o w) (hP : ∀ i, P i → i < xN w ∧ ¬ bC b A D i) (ho2 : ¬ bC b A D o) (hb : 1 ≤ (xB w).1 ∧ 100 ≤ (xB w).2)
    (qo : ∀ w', xk (fun i => b ≤ i) w w' → XTB wd hg (tK t, tS t, tL t, tN t, tR t ++ [r]) n b w' → Q (some (.int (nI 1))) w') : V_J2_add [.ref (b + 3), .ref o] w Q := by
  obtain ⟨hs, hz, h0, ⟨c1, c2, ⟨cA, hA⟩, cD, hD⟩, ⟨k1, k2⟩, ⟨r1, r2⟩, g⟩ := id h
  obtain ⟨⟨b1, b8, b83⟩, _⟩ := id hs
  have hlist := hD.2.2.2.2.1
  have h7 : (xS w o).1 = 12 := ho.1.1
  refine x_add hD ⟨by rw [h7]; omega, by rw [h7]; omega⟩ ho.1.2 (by omega) (fun e => by omega) (fun w3 r3 => ?_)
  obtain ⟨D', cap', A3, k3, n3, a3, hcap, _, _, _⟩ := r3
  have nn := k3.1
  have lA := XLa_ne hA
  have lD := XLa_ne hD
  have c := fun i (h1 : b ≤ i) (h2 : i < b + 83) (h3 : i ≠ b + 3) (h4 : i ≠ b + 4) => k3.2.2 i (by omega) (by omega)
  have nE : ∀ i, ¬ bC b A D i → ¬ (i = b + 3 ∨ i = D) := fun i hi z => hi (by unfold bC; omega)
  have gb : ∀ i, ¬ bC b A D i → i < xN w → fC b A D' (xN w) i := fun i h1 h2 => ⟨h2, fun z => h1 (by unfold bC at *; omega)⟩
  refine qo w3 (xk_wk k3 (fun i _ hi => by omega)) ⟨KL, RL ++ [o], A, D', xN w, nn, XBs_s hs k3.1 k3.2.1 ⟨(c b (by omega) (by omega) (by omega) (by omega)).2.2, (c _ (by omega) (by omega) (by omega) (by omega)).2.2, (c _ (by omega) (by omega) (by omega) (by omega)).2.2⟩, XBz_s hz (fun p hp => (c _ (by omega) (by omega) (by omega) (by omega)).1) (c b (by omega) (by omega) (by omega) (by omega)).2.1 (fun p hp => (c _ (by omega) (by omega) (by omega) (by omega)).2.1), by rw [(c b (by omega) (by omega) (by omega) (by omega)).1]; exact h0, ⟨by omega, by omega, ⟨cA, XLa_k hA k3 (by omega) (by omega)⟩, cap', A3⟩, ⟨k1, fun j hj => ?_⟩, ⟨?_, fun j hj => ?_⟩, fun p hp => ?_⟩
  · obtain ⟨d1, d2, d3, d4⟩ := k2 j hj
    have e3 := (k3.2.2 _ d1.1.2 (nE _ d2.2)).2.2
    have e4 := (k3.2.2 _ d1.2.2.2.1.2.2 (nE _ d3.2)).2.2
    refine ⟨XKi_k d1 k3 (nE _ d2.2) (nE _ d3.2) (nE _ d4.2), fC_d d2 hlim a3, ?_, ?_⟩
    · rw [e3]; exact fC_d d3 hlim a3
    · rw [e3, e4]; exact fC_d d4 hlim a3
  · show (RL ++ [o]).length = (tR t ++ [r]).length
    rw [List.length_append, List.length_append, r1]; rfl
  · have hj : j < (tR t ++ [r]).length := hj
    rw [List.length_append] at hj
    have hj : j < (tR t).length + 1 := hj
    show XRu _ ((tR t ++ [r]).getD j ([], [])) _ w3 ∧ _
    by_cases cj : j < (tR t).length
    · rw [gdA _ _ _ _ cj, gdA _ _ _ _ (by omega)]
      obtain ⟨d1, d2⟩ := r2 j cj
      exact ⟨XRu_k d1 k3 (nE _ d2.2) (fun i hi => ⟨by have := hi.1; omega, nE i hi.2⟩) (fun i hi => fC_d hi hlim a3), fC_d d2 hlim a3⟩
    · have ej : j = (tR t).length := by omega
      subst ej
      rw [gdB, ← r1, gdB]
      exact ⟨XRu_k ho k3 (nE _ ho2) (fun i hi => ⟨(hP i hi).1, nE i (hP i hi).2⟩) (fun i hi => gb i (hP i hi).2 (hP i hi).1), gb _ ho2 ho.1.2⟩
  · rw [(c (b + 5) (by omega) (by omega) (by omega) (by omega)).1, (c (b + 6) (by omega) (by omega) (by omega) (by omega)).1, (c (b + 7) (by omega) (by omega) (by omega) (by omega)).1]; exact g p hp
end
