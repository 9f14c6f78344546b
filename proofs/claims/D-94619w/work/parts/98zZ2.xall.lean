/-! X: a whole border is read -/
section
variable {T : List Nat} {Q : Option Value → xw → Prop} {Qx : Nat → xw → Prop} {w : xw}
theorem mk_le (f : Nat) : ∀ h s c a, a ≤ T.length → (mkP T f h s c a).2 ≤ T.length := by
  induction f with
  | zero => intro h s c a ha; exact sk_le T ha
  | succ f ih =>
    intro h s c a ha
    have hs := sk_le T ha
    unfold mkP
    split
    · rename_i g
      have := here_w (k := 13) (by omega) (by omega) ha g
      have e : (wT 13).length = 4 := rfl
      split
      · exact hs
      · exact ih _ _ _ _ (by omega)
    · split
      · rename_i g
        have := here_w (k := 14) (by omega) (by omega) ha g
        have e : (wT 14).length = 4 := rfl
        split
        · exact hs
        · exact ih _ _ _ _ (by omega)
      · split
        · rename_i g
          have := here_w (k := 15) (by omega) (by omega) ha g
          have e : (wT 15).length = 5 := rfl
          split
          · exact hs
          · exact ih _ _ _ _ (by omega)
        · exact hs
theorem plc_le {wd hg a p a1 np : Nat} (ha : a ≤ T.length) (h : plcP T wd hg a = .inr (p, a1, np)) : a1 ≤ T.length := by
  unfold plcP at h
  split at h
  · rename_i g
    have := here_w (k := 19) (by omega) (by omega) ha g
    have e : (wT 19).length = 2 := rfl
    split at h
    · cases h
    · rename_i x a2 h1
      split at h
      · cases h
      · rename_i y a3 h2
        have l1 := num_le (by omega) h1
        have l2 := num_le l1.1 h2
        cases h; exact l2.1
  · cases h
theorem ki_le {K : List (List Nat × Nat × Nat)} {a a1 : Nat} {q : List Nat × Nat × Nat} (ha : a ≤ T.length) (h : kiP T K a = .inr (q, a1)) : a1 ≤ T.length := by
  unfold kiP at h
  split at h
  · cases h
  · rename_i e hn
    have no := nm_ok ha hn
    split at h
    · cases h
    · split at h
      · rename_i g
        have := here_w (k := 12) (by omega) (by omega) no.2.2.1 g
        have e5 : (wT 12).length = 5 := rfl
        split at h
        · cases h
        · rename_i r a2 h1
          have l1 := num_le (by omega) h1
          cases h
          exact mk_le _ _ _ _ _ l1.1
      · cases h
theorem st_le {wd hg a a1 : Nat} {t t' : TB} (ha : a ≤ T.length) (h : stP T wd hg t a = .inr (t', a1)) : a1 ≤ T.length := by
  unfold stP at h
  split at h
  · rename_i g
    have := here_w (k := 11) (by omega) (by omega) ha g
    have e : (wT 11).length = 4 := rfl
    unfold kindP at h
    split at h
    · cases h
    · split at h
      · cases h
      · rename_i q a2 h1
        cases h; exact ki_le (by omega) h1
  · split at h
    · rename_i g
      have := here_w (k := 16) (by omega) (by omega) ha g
      have e : (wT 16).length = 5 := rfl
      unfold stoP at h
      split at h
      · cases h
      · split at h
        · cases h
        · rename_i e2 hn
          have no := nm_ok (by omega) hn
          split at h
          · cases h
          · split at h
            · cases h
            · rename_i v a2 h1
              have l1 := sd_le no.2.2.1 h1
              split at h
              · cases h
              · rename_i p a3 np h2
                split at h
                · cases h
                · cases h; exact plc_le l1 h2
    · split at h
      · rename_i g
        have := here_w (k := 20) (by omega) (by omega) ha g
        have e : (wT 20).length = 4 := rfl
        unfold lanP ldP at h
        cases hd : sdP T (sk T a + 4) with
        | inl e => rw [hd] at h; cases h
        | inr q =>
          obtain ⟨v, a2⟩ := q
          have l1 := sd_le (by omega) hd
          simp only [hd] at h
          cases hp : plcP T wd hg a2 with
          | inl e => simp only [hp] at h; cases h
          | inr q2 =>
            obtain ⟨p, a3, np⟩ := q2
            simp only [hp] at h
            cases h; exact plc_le l1 hp
      · split at h
        · rename_i g
          have := here_w (k := 21) (by omega) (by omega) ha g
          have e : (wT 21).length = 5 := rfl
          unfold ruP at h
          split at h
          · cases h
          · cases hd : pE T FU 3 (sk T a + 5) 0 with
            | inl e => simp only [hd] at h; cases h
            | inr q =>
              obtain ⟨c, a2⟩ := q
              have l1 := pE_le T FU 3 _ _ _ _ (by omega) hd
              simp only [hd] at h
              split at h
              · rename_i g2
                have := here_w (k := 22) (by omega) (by omega) l1 g2
                have e : (wT 22).length = 4 := rfl
                cases hp : pT T FU FU 3 (sk T a2 + 4) 0 with
                | inl e => simp only [hp] at h; cases h
                | inr q2 =>
                  obtain ⟨c2, a3⟩ := q2
                  simp only [hp] at h
                  cases h
                  exact sk_le T (pT_le T FU FU 3 _ 0 c2 a3 (by omega) hp).1
              · cases h
        · cases h
theorem st_ge {wd hg a a1 : Nat} {t t' : TB} (ht : tOk t) (ha : a ≤ T.length) (h : stP T wd hg t a = .inr (t', a1)) : wl T (sk T a) ≤ a1 := by
  unfold stP at h
  split at h
  · rename_i g
    have h9 := here_w (k := 11) (by omega) (by omega) ha g
    have e : (wT 11).length = 4 := rfl
    rw [e] at h9
    have := (kind_ok ht (by omega) h).2.1
    omega
  · split at h
    · rename_i g
      have h9 := here_w (k := 16) (by omega) (by omega) ha g
      have e : (wT 16).length = 5 := rfl
      rw [e] at h9
      have := (sto_ok ht (by omega) h).2.1
      omega
    · split at h
      · rename_i g
        have h9 := here_w (k := 20) (by omega) (by omega) ha g
        have e : (wT 20).length = 4 := rfl
        rw [e] at h9
        have := (lan_ok ht (by omega) h).2.1
        omega
      · split at h
        · rename_i g
          have h9 := here_w (k := 21) (by omega) (by omega) ha g
          have e : (wT 21).length = 5 := rfl
          rw [e] at h9
          unfold ruP at h
          split at h
          · cases h
          · cases hd : pE T FU 3 (sk T a + 5) 0 with
            | inl e => simp only [hd] at h; cases h
            | inr q =>
              obtain ⟨c, a2⟩ := q
              have l1 := pE_len _ _ _ _ _ _ _ hd
              have s2 := sk_ge T a2
              simp only [hd] at h
              split at h
              · cases hp : pT T FU FU 3 (sk T a2 + 4) 0 with
                | inl e => simp only [hp] at h; cases h
                | inr q2 =>
                  obtain ⟨c2, a3⟩ := q2
                  have l2 := pT_ge _ _ _ _ _ _ _ _ hp
                  have s3 := sk_ge T a3
                  simp only [hp] at h
                  cases h
                  omega
              · cases h
        · cases h
set_option maxHeartbeats 2000000 in
theorem x_sts {wd hg b : Nat} (hf : fOk wd hg) {w0 : xw} (hb0 : b ≤ xN w0) : ∀ (m n : Nat) (t : TB) (a : Nat) (w : xw), n + m = 80 → xqb b w0 w → XZw T a w → XTo wd hg t n b w → tOk t → xI w 341 4 = nI 0 → (60 * (T.length + 19 - a) ≤ (xB w).1 ∧ 5500 * (T.length + 19 - a) ≤ (xB w).2) →
    (∀ kd pl, stsP T wd hg m t a = .inl (kd, pl) → ∀ w', xqb b w0 w' → XBad kd pl w' → (xS w' 342).1 = 4 → Qx 342 w') →
    (∀ t' n', stsP T wd hg m t a = .inr (t', n') → ∀ w', xqb b w0 w' → XTo wd hg t' n' b w' → Q (some (.ref b)) w') → ∀ {o1 o2 : Option Value}, T_X2_all Qx Q 87 [some (.ref 341), o1, o2] [] w := by
  intro m
  induction m with
  | zero =>
    intro n t a w hnm hq hz hto ht hop hb qe qo o1 o2
    have hal := hz.1
    have hN := XZw_n hz
    obtain ⟨_, p, hp, z⟩ := id hz
    have hT := z.1.1.2.2.2.2.1
    have hsk := sk_is T hal
    have hbb := XTB_b hto.1
    have hn : n = 80 := by omega
    have e0 : stsP T wd hg 0 t a = if sk T a < T.length then .inl (5, sk T a) else .inr (t, 80) := rfl
    refine r_X2_all_87 ⟨z.1.1.1.1, x_here (w0 := w) p w z.1 (fR_refl w) rfl (fun w1 f1 b1 r1 j1 => r_X2_all_91 ?_)⟩
    rw [hp] at r1 ⊢
    have q1 := xqb_q2 hq (xq_f f1) hb0
    have to1 := XTo_q hto (xq_f f1) hN
    obtain ⟨⟨KL, RL, A, D, lim, hlim, tx1⟩, hr1⟩ := id to1
    have i2 : xI w1 b 2 = nI 80 := by rw [tx1.2.2.1.2.2.1, hn]
    have n1 : xN w1 = xN w := f1.1.1
    rw [ch_end hT, hr1, i2, r1.2.1]
    refine ⟨fun g => ⟨r1.1.1.1, by omega, ⟨_, rfl, rfl⟩, qo t 80 (by rw [e0, if_neg g]) w1 q1 (by rw [hn] at to1; exact to1)⟩, fun g => ⟨r1.1.1.1, by omega, tx1.1.1.1, fun z => absurd rfl z, fun _ => ⟨r1.1.1.1, r1.1.1.1, 0, 0, ⟨Nat.zero_le _, Nat.zero_le _⟩, x_most (T := T) (w := xSetB w1 (0, 0)) (b := true) (pl := sk T a) r1.1 rfl rfl (fun _ w2 f2 e2 s2 => qe 5 (sk T a) (by rw [e0, if_pos (Decidable.not_not.mp g)]) _ (xqb_q2 q1 (w1 := w1) (xq_f f2) hb0) e2 s2) (fun z => by cases z)⟩⟩⟩
  | succ m ih =>
    intro n t a w hnm hq hz hto ht hop hb qe qo o1 o2
    have hal := hz.1
    have hN := XZw_n hz
    obtain ⟨_, p, hp, z⟩ := id hz
    have hT := z.1.1.2.2.2.2.1
    have l16 := hT.1
    have hsk := sk_is T hal
    have hss : sk T (sk T a) = sk T a := sk_sk hal
    have hbb := XTB_b hto.1
    have e0 : stsP T wd hg (m + 1) t a = if sk T a < T.length then (match stFP T wd hg t (sk T a) with
      | .inl e => .inl e
      | .inr (t', a1) => stsP T wd hg m t' a1) else .inr (t, 79 - m) := rfl
    refine r_X2_all_87 ⟨z.1.1.1.1, x_here (w0 := w) p w z.1 (fR_refl w) rfl (fun w1 f1 b1 r1 j1 => r_X2_all_91 ?_)⟩
    rw [hp] at r1 ⊢
    have q1 := xqb_q2 hq (xq_f f1) hb0
    have to1 := XTo_q hto (xq_f f1) hN
    have op1 : xI w1 341 4 = nI 0 := (j1 4 (by omega)).trans hop
    obtain ⟨⟨KL, RL, A, D, lim, hlim, tx1⟩, hr1⟩ := id to1
    have i2 : xI w1 b 2 = nI n := tx1.2.2.1.2.2.1
    have n1 : xN w1 = xN w := f1.1.1
    have z1 : XZ T (sk T a) w1 := ⟨r1, XC_q z.2 (xq_f f1) hN⟩
    rw [← b1] at hb
    rw [ch_end hT, hr1, i2, r1.2.1, show (nI n = (80 : Int32)) ↔ n = 80 from n_eq (b := 80) (by omega) (by omega)]
    refine ⟨fun g => ⟨r1.1.1.1, by omega, ⟨_, rfl, rfl⟩, qo t (79 - m) (by rw [e0, if_neg g]) w1 q1 (by rw [show 79 - m = n by omega]; exact to1)⟩, fun g => ⟨r1.1.1.1, by omega, tx1.1.1.1, fun _ => ⟨r1.1.1.1, r1.1.1.1, 0, 0, ⟨Nat.zero_le _, Nat.zero_le _⟩, x_most (T := T) (w := xSetB w1 (0, 0)) (b := false) (pl := sk T a) r1.1 rfl rfl (fun z => by cases z) (fun _ => r_X2_all_120 ?_)⟩, fun z => absurd (by omega) z⟩⟩
    have g := Decidable.not_not.mp g
    rw [e0, if_pos g] at qe qo
    have r1B : ∀ B C, xR (xSetB (xSetB w1 C) B) 341 5 = b := fun _ _ => hr1
    have i2B : ∀ B C, xI (xSetB (xSetB w1 C) B) b 2 + 1 = nI (n + 1) := fun _ _ => by show xI w1 b 2 + 1 = _; rw [i2]; exact n_add n 1
    rw [r1B, i2B]
    -- one statement more
    have kU : xk (fun i => i = b ∨ i = b + 5 ∨ i = b + 6 ∨ i = b + 7) w1 (xUpI w1 b 2 (nI (n + 1))) := xk_uI (E := fun i => i = b ∨ i = b + 5 ∨ i = b + 6 ∨ i = b + 7) (xk_refl _ w1) (Or.inl (Or.inl rfl))
    obtain ⟨w2, hw2⟩ : ∃ w2, w2 = xUpI w1 b 2 (nI (n + 1)) := ⟨_, rfl⟩
    have tx2 : XTx wd hg t (n + 1) b KL RL A D lim w2 := by
      obtain ⟨_, _, h0, _, _, _, g9⟩ := id tx1
      rw [hw2]
      refine XTx_e tx1 hlim kU ⟨rfl, rfl⟩ rfl rfl ⟨?_, ?_, ?_, ?_⟩ (fun u hu => ?_)
      · rw [x_uI, if_neg (by omega)]; exact h0.1
      · rw [x_uI, if_neg (by omega)]; exact h0.2.1
      · rw [x_uI, if_pos ⟨rfl, rfl⟩]
      · rw [x_uI, if_neg (by omega)]; exact h0.2.2.2
      · rw [x_uI, if_neg (by omega), x_uI, if_neg (by omega), x_uI, if_neg (by omega)]; exact g9 u hu
    rw [← hw2] at kU
    have n2 : xN w2 = xN w1 := by rw [hw2]; rfl
    have b2 : xB w2 = xB w1 := by rw [hw2]; rfl
    have hr2 : xR w2 341 5 = b := by rw [hw2]; exact hr1
    have op2 : xI w2 341 4 = nI 0 := by rw [hw2, x_uI, if_neg (by omega)]; exact op1
    have z2 : XZ T (sk T a) w2 := XZ_k z1 kU (fun i hi => by omega)
    have q2 : xqb b w0 w2 := xqb_trans q1 (xqb_k kU (fun i hi => by omega) (by omega))
    have zw2 : XZw T (sk T a) w2 := XZw_s (XZs_of z2)
    have wn2 := wn_le zw2
    have hAD := XTx_AD tx2
    -- the word, what it tells, the sign behind it
    have key : (xS w2 341).1 = 3 ∧ ∃ C S : Nat, (C ≤ (xB w1).1 - 0 ∧ S ≤ (xB w1).2 - 0) ∧ V_X2_word_2 [.ref 341] (xSetB w2 (C, S)) (fun v w9 => T_X2_all Qx Q 137 [some (.ref 341), none, none] (v.toList ++ []) (xSetB w9 ((xB w1).1 - 0 - C, (xB w1).2 - 0 - S))) (fun q w9 => Qx q (xSetB w9 ((xB w1).1 - 0 - C, (xB w1).2 - 0 - S))) := by
      refine ⟨z2.1.1.1.1, 3, 3210, ⟨by omega, by omega⟩, x_wordW (w := xSetB w2 (3, 3210)) zw2 ⟨Nat.le_refl _, wn2⟩ (fun hi w3 f3 e3 s3 => ?_) (fun hi w3 f3 z3 fr3 op3 S3 h3 => r_X2_all_137 ?_)⟩
      · rw [hss] at hi e3
        have no : ∀ k, hereB T (sk T a) (wT k) = false := fun k => by unfold hereB; rw [hss, hi]; rfl
        refine qe 1 (sk T a) ?_ _ (xqb_q2 q2 (w1 := w2) f3 hb0) e3 s3
        unfold stFP stP
        rw [no, no, no, no, hss]; rfl
      have f3 : xq w2 w3 := f3
      have n3 := f3.1
      have q3 : xqb b w0 w3 := xqb_q2 q2 f3 hb0
      have tx3 := XTx_q tx2 (by omega) f3
      have hr3 : xR w3 341 5 = b := by rw [(f3.2.1 341 (by omega)).2.2]; exact hr2
      have op3 : xI w3 341 4 = nI 0 := Eq.trans (b := xI w2 341 4) op3 op2
      have S3 : XStr (wB T (sk T (sk T a))) (xN w2 + 1) w3 := S3
      have h3 : xI w3 (xN w2 + 1) 2 = 0 ∧ xI w3 (xN w2 + 1) 3 = 0 := h3
      have fr3B : ∀ B, xI (xSetB w3 B) 341 3 = nI (sk T (sk T a)) := fun _ => fr3
      rw [fr3B]
      have ewl : sk T a ≤ wl T (sk T (sk T a)) ∧ wl T (sk T (sk T a)) ≤ T.length := by
        have := spL_is T isLe (sk T (sk T a)) (by rw [hss]; exact hsk.2)
        have e9 : spL T isLe (sk T (sk T a)) = wl T (sk T (sk T a)) := rfl
        rw [e9] at this
        rw [hss] at this ⊢
        omega
      have eSl : eS T (stP T wd hg t (sk T a)) ≤ T.length + 15 := by
        cases hr : stP T wd hg t (sk T a) with
        | inl e => exact Nat.le_refl _
        | inr q =>
          have := st_le hsk.2 (t' := q.1) (a1 := q.2) hr
          show q.2 ≤ T.length + 15; omega
      have wl4 : ∀ t' a1, stP T wd hg t (sk T a) = .inr (t', a1) → sk T a + 4 ≤ wl T (sk T (sk T a)) ∧ wl T (sk T (sk T a)) ≤ sk T a + 5 := fun t' a1 hr => by
        have w9 : ∀ k, 10 ≤ k → k < 32 → hereB T (sk T a) (wT k) = true → wl T (sk T (sk T a)) = sk T a + (wT k).length := fun k h1 h2 h3 => by
          have := (here_w h1 h2 hsk.2 h3).1
          rw [hss] at this ⊢; exact this
        unfold stP at hr
        split at hr
        · rename_i c9
          have := w9 11 (by omega) (by omega) c9
          have e : (wT 11).length = 4 := rfl
          omega
        · split at hr
          · rename_i c9
            have := w9 16 (by omega) (by omega) c9
            have e : (wT 16).length = 5 := rfl
            omega
          · split at hr
            · rename_i c9
              have := w9 20 (by omega) (by omega) c9
              have e : (wT 20).length = 4 := rfl
              omega
            · split at hr
              · rename_i c9
                have := w9 21 (by omega) (by omega) c9
                have e : (wT 21).length = 5 := rfl
                omega
              · cases hr
      obtain ⟨C, hC⟩ : ∃ C, C = 60 * (eS T (stP T wd hg t (sk T a)) - wl T (sk T (sk T a))) + 40 := ⟨_, rfl⟩
      obtain ⟨S, hS⟩ : ∃ S, S = 5500 * (eS T (stP T wd hg t (sk T a)) - wl T (sk T (sk T a))) + 15000 := ⟨_, rfl⟩
      refine ⟨z3.1.1.1.1, z3.1.1.1.1, C, S, ⟨by show C ≤ (xB w1).1 - 0 - 3; omega, by show S ≤ (xB w1).2 - 0 - 3210; omega⟩, x_told (w := xSetB (xSetB w3 _) (C, S)) (a := sk T a) (lim := lim) (KL := KL) (RL := RL) (A := A) (D := D) hsk.2 z3 hi S3 h3 (by show lim ≤ xN w2 + 1 ∧ b + 83 ≤ xN w2 + 1 ∧ xN w2 + 1 ≠ A ∧ xN w2 + 1 ≠ D; omega) op3 q3 hb0 tx3 (by show lim ≤ xN w3; omega) hr3 ht hf rfl ⟨by show _ ≤ C; omega, by show _ ≤ S; omega⟩ (fun kd pl hr w4 f4 e4 s4 => qe kd pl (by unfold stFP; rw [hr]) _ f4 e4 s4) (fun t' a1 hr h59 w4 f4 e4 s4 => qe 1 (sk T a1) (by unfold stFP; simp only [hr]; rw [if_neg (by rw [h59]; decide)]) _ f4 e4 s4) (fun t' a1 hr w4 f4 z4 t4 o4 => r_X2_all_147 ?_)⟩
      have z4 : XZw T a1 w4 := z4
      have wl5 := wl4 t' a1 hr
      have wl6 := st_ge ht hsk.2 hr
      have en : eS T (stP T wd hg t (sk T a)) = a1 := by rw [hr]; rfl
      rw [en] at hC hS
      have a1l := z4.1
      have sa1 := sk_ge T a1
      have s341 : (xS w4 341).1 = 3 := by obtain ⟨_, b, _, z⟩ := z4; exact z.1.1.1.1
      refine ⟨s341, 0, 0, ⟨Nat.zero_le _, Nat.zero_le _⟩, x_mustW (w := xSetB (xSetB w4 _) (0, 0)) z4 (c := 59) rfl (by omega) (fun h5 w5 f5 e5 s5 => ?_) (fun h5 w5 f5 z5 o5 k5 => r_X2_all_153 ?_)⟩
      · exact qe 1 (sk T a1) (by unfold stFP; simp only [hr]; rw [if_neg (by rw [h5]; decide)]) _ (xqb_q2 f4 (w1 := w4) f5 hb0) e5 s5
      have f5 : xq w4 w5 := f5
      have hlt := chB_lt h5
      have eF9 : stFP T wd hg t (sk T a) = .inr (t', sk T a1 + 1) := by unfold stFP; simp only [hr]; rw [if_pos h5]
      rw [eF9] at qe qo
      refine ih (n + 1) t' (sk T a1 + 1) (xSetB w5 ((xB w1).1 - 0 - 3 - C - 0, (xB w1).2 - 0 - 3210 - S - 0)) (by omega) (xqb_q2 f4 f5 hb0) (XZw_s (XZs_of z5)) (XTo_q t4 f5 (XZw_n z4)) (stp_ok ht hsk.2 eF9) (Eq.trans (b := xI w4 341 4) o5 o4) ?_ qe qo
      show 60 * _ ≤ (xB w1).1 - 0 - 3 - C - 0 ∧ 5500 * _ ≤ (xB w1).2 - 0 - 3210 - S - 0
      omega
    rw [hw2] at key
    exact ⟨r1.1.1.1, by omega, tx1.1.1.1, tx1.1.1.1, by omega, key⟩
end
