/-! X: sides, places, kinds and stones that are told -/
section
variable {T : List Nat} {Q : Option Value → xw → Prop} {Qx : Nat → xw → Prop} {w : xw}
theorem x_wordW {a : Nat} (h : XZw T a w) (hb : 3 ≤ (xB w).1 ∧ 2 * (wl T (sk T a) - sk T a) + 10 ≤ (xB w).2)
    (qe : isWd T (sk T a) = false → ∀ w', xq w w' → XBad 1 (sk T a) w' → (xS w' 342).1 = 4 → Qx 342 w')
    (qo : isWd T (sk T a) = true → ∀ w', xq w w' → XZ T (wl T (sk T a)) w' → xI w' 341 3 = nI (sk T a) → xI w' 341 4 = xI w 341 4 → XStr (wB T (sk T a)) (xN w + 1) w' → (xI w' (xN w + 1) 2 = 0 ∧ xI w' (xN w + 1) 3 = 0) → Q (some (.ref (xN w + 1))) w') : V_X2_word_2 [.ref 341] w Q Qx := by
  obtain ⟨_, p, hp, z⟩ := h
  refine x_word z.1 (by rw [hp]; exact hb) (fun hi w1 f1 e1 s1 => ?_) (fun hi w1 f1 n1 r1 fr1 op1 S1 z1 => ?_)
  · rw [hp] at hi e1
    exact qe hi w1 (xq_f f1) e1 s1
  · rw [hp] at hi r1 fr1 S1
    exact qo hi w1 f1 ⟨r1, XC_q z.2 f1 (XZ_n z)⟩ fr1 op1 S1 z1.1
theorem x_sideT {a : Nat} (h : XZw T a w) (hb : 3 ≤ (xB w).1 ∧ 2 * (wl T (sk T a) - sk T a) + 10 ≤ (xB w).2)
    (qe : ∀ kd pl, sdP T a = .inl (kd, pl) → ∀ w', xq w w' → XBad kd pl w' → (xS w' 342).1 = 4 → Qx 342 w')
    (qo : ∀ v a1, sdP T a = .inr (v, a1) → ∀ w', xq w w' → XZ T a1 w' → xI w' 341 4 = xI w 341 4 → Q (some (.int (nI v))) w') : V_X2_side [.ref 341] w Q Qx := by
  have hal := h.1
  have hN := XZw_n h
  have s341 : (xS w 341).1 = 3 := by obtain ⟨_, b, _, z⟩ := h; exact z.1.1.1.1
  unfold sdP at qe qo
  refine e_X2_side (r_X2_side_0 ⟨s341, (xB w).1, (xB w).2, ⟨Nat.le_refl _, Nat.le_refl _⟩, x_wordW (w := xSetB w _) h hb (fun hi w1 f1 e1 s1 => ?_) (fun hi w1 f1 z1 fr1 op1 S1 _ => r_X2_side_4 ?_)⟩)
  · have no : ∀ k, hereB T a (wT k) = false := fun k => by unfold hereB; rw [hi]; rfl
    exact qe 1 (sk T a) (by rw [no, no]; rfl) _ f1 e1 s1
  have f1 : xq w w1 := f1
  have c1 := z1.2
  have hh := fun k => here_is (T := T) (a := a) (k := k) hi
  have S1 : XStr (wB T (sk T a)) (xN w + 1) w1 := S1
  refine x_find (w := xSetB w1 _) (S := wB T (sk T a)) (f := fun k => wT (17 + k)) S1 (by show 256 ≤ xN w + 1; omega) (by omega) c1.2.2.1.1 (fun k hk => by
    have e := c1.2.2.1.2 k hk
    show XStr (wT (17 + k)) (xR w1 2 k) w1
    rw [e]; exact (c1.1 (17 + k) (by omega) (by omega)).1) (r_X2_side_10 ?_)
  have fk : ∀ k, decide (wT (17 + k) = wB T (sk T a)) = hereB T a (wT (17 + k)) := fun k => by rw [hh]; exact decide_eq_decide.mpr ⟨fun h => h.symm, fun h => h.symm⟩
  rw [show (fun k => decide (wT (17 + k) = wB T (sk T a))) = fun k => hereB T a (wT (17 + k)) from funext fk]
  rcases fstP_ex (f := fun k => hereB T a (wT (17 + k))) (n := 2) with ⟨g1, g2⟩ | ⟨k, g1, hk, g2, g3⟩
  · rw [g1]
    have a17 : hereB T a (wT 17) = false := g2 0 (by omega)
    have a18 : hereB T a (wT 18) = false := g2 1 (by omega)
    rw [a17, a18] at qe
    exact ⟨fun z => absurd rfl z, fun _ => ⟨z1.1.1.1.1, z1.1.1.1.1, x_wrong (T := T) (kd := 1) (pl := sk T a) (by exact z1.1.1) rfl (by exact fr1) (fun w2 f2 b2 e2 s2 _ => r_X2_side_25 ⟨s2, qe 1 (sk T a) rfl w2 (xq_trans f1 (xq_f (w := w1) f2)) e2 s2⟩)⟩⟩
  · rw [g1]
    have hki : ¬ (fdI (some k) = -1) := fun z => by
      have : (nI k).toInt = -1 := by rw [show nI k = -1 from z]; decide
      rw [n_T (by omega)] at this; omega
    refine ⟨fun _ => ⟨trivial, ?_⟩, fun z => absurd hki z⟩
    have hk2 : k = 0 ∨ k = 1 := by omega
    rcases hk2 with g | g <;> subst g
    · have g2 : hereB T a (wT 17) = true := g2
      have hw := here_w (k := 17) (by omega) (by omega) hal g2
      have ew : (wT 17).length = 3 := rfl
      rw [ew] at hw
      rw [hw.1] at z1
      exact qo 0 (sk T a + 3) (by rw [if_pos g2]) _ f1 z1 op1
    · have g2 : hereB T a (wT 18) = true := g2
      have g0 : hereB T a (wT 17) = false := g3 0 (by omega)
      have hw := here_w (k := 18) (by omega) (by omega) hal g2
      have ew : (wT 18).length = 4 := rfl
      rw [ew] at hw
      rw [hw.1] at z1
      exact qo 1 (sk T a + 4) (by rw [g0, if_neg (by decide), if_pos g2]) _ f1 z1 op1
theorem x_placeT {a wd hg n b : Nat} {t : TB} (h : XZw T a w) (hto : XTo wd hg t n b w) (hf : fOk wd hg) (hb : 3 ≤ (xB w).1 ∧ 2 * (wl T (sk T a) - sk T a) + 10 ≤ (xB w).2)
    (qe : ∀ kd pl, plcP T wd hg a = .inl (kd, pl) → ∀ w', xq w w' → XBad kd pl w' → (xS w' 342).1 = 4 → Qx 342 w')
    (qo : ∀ p a1 np, plcP T wd hg a = .inr (p, a1, np) → ∀ w', xq w w' → XZ T a1 w' → xI w' 341 3 = nI np → xI w' 341 4 = xI w 341 4 → Q (some (.int (nI p))) w') : V_X2_place [.ref 341] w Q Qx := by
  have hal := h.1
  have hN := XZw_n h
  obtain ⟨_, p, hp, z⟩ := id h
  have hbb := XTB_b hto.1
  obtain ⟨⟨KL, RL, A, D, lim, hlim, hs1, hz1, h0, _⟩, hr⟩ := id hto
  have hwd : nI wd - 1 = nI (wd - 1) := n_sub (a := wd) (b := 1) (by have := hf.1; omega)
  have hhg : nI hg - 1 = nI (hg - 1) := n_sub (a := hg) (b := 1) (by have := hf.2.1; omega)
  have hw2 := hf.1
  have hg2 := hf.2.1
  unfold plcP at qe qo
  refine e_X2_place (r_X2_place_0 ?_)
  rw [hr, h0.1, hwd]
  refine ⟨z.1.1.1.1, by omega, hbb.2.2, z.1.1.1.1, (xB w).1, (xB w).2, ⟨Nat.le_refl _, Nat.le_refl _⟩, x_number2 (w := xSetB w _) (k := 19) (lo := 0) (hi := wd - 1) z (by omega) (by omega) rfl rfl (by omega) (by omega) (by rw [hp]; exact hb) (fun kd pl hk w1 f1 e1 s1 => ?_) (fun hh v e hn w1 f1 z1 fr1 op1 _ => r_X2_place_16 ?_)⟩
  · rw [hereB_s hp, hp] at hk
    refine qe kd pl ?_ _ f1 e1 s1
    rcases hk with ⟨g1, g2, g3⟩ | ⟨g1, g2⟩
    · rw [g1, g2, g3]; rfl
    · have hw := here_w (k := 19) (by omega) (by omega) hal g1
      have ew : (wT 19).length = 2 := rfl
      rw [hw.1, ew] at g2
      rw [if_pos g1, g2]
  rw [hereB_s hp] at hh
  rw [hp] at hn fr1
  have hw := here_w (k := 19) (by omega) (by omega) hal hh
  have ew : (wT 19).length = 2 := rfl
  rw [ew] at hw
  rw [hw.1] at hn fr1
  rw [if_pos hh, hn] at qe qo
  have f1 : xq w w1 := f1
  have to1 := XTo_q hto f1 hN
  obtain ⟨⟨KL1, RL1, A1, D1, lim1, hlim1, hs2, hz2, h01, _⟩, hr1⟩ := id to1
  have hr1B : ∀ B, xR (xSetB w1 B) 341 5 = b := fun _ => hr1
  have h1B : ∀ B, xI (xSetB w1 B) b 1 = nI hg := fun _ => h01.2.1
  rw [hr1B, h1B, hhg]
  refine ⟨z1.1.1.1.1, by omega, hs2.1.1, z1.1.1.1.1, 0, 0, ⟨Nat.zero_le _, Nat.zero_le _⟩, x_number (w := xSetB (xSetB w1 _) (0, 0)) (lo := 0) (hi := hg - 1) z1 rfl rfl (by omega) (by omega) (fun kd pl hk w2 f2 e2 s2 => ?_) (fun v2 e2 hn2 w2 f2 z2 fr2 b2 => r_X2_place_31 ?_)⟩
  · exact qe kd pl (by simp only [hk]) _ (xq_trans f1 (w1 := w1) f2) e2 s2
  have f2 : fR w1 w2 := f2
  have to2 := XTo_q to1 (xq_f f2) (XZ_n z1)
  obtain ⟨⟨KL2, RL2, A2, D2, lim2, hlim2, hs3, hz3, h02, _⟩, hr2⟩ := id to2
  have hr2B : ∀ B, xR (xSetB w2 B) 341 5 = b := fun _ => hr2
  have h2B : ∀ B, xI (xSetB w2 B) b 0 = nI wd := fun _ => h02.1
  rw [hr2B, h2B]
  refine ⟨z2.1.1.1.1, by omega, hs3.1.1, trivial, ?_⟩
  rw [n_mul, n_add, Nat.mul_comm]
  refine qo _ e2 (sk T e) (by simp only [hn2]) _ (xq_trans f1 (xq_f (w := w1) (w1 := w2) f2)) z2 fr2 ?_
  exact Eq.trans (b := xI w1 341 4) (f2.2.2 341 4 (by omega) (by omega)) op1
/-- a Kind that is made, outside the Border's own cells -/
def XKo (b A D r m : Nat) (N : List Nat) (o : Nat) (w : xw) : Prop := ((xS w o).1 = 7 ∧ o < xN w) ∧ xI w o 1 = nI r ∧ xI w o 2 = nI m ∧ XStr N (xR w o 0) w ∧ (¬ bC b A D o ∧ ¬ bC b A D (xR w o 0) ∧ ¬ bC b A D (xR w (xR w o 0) 0)) ∧ o ≠ xR w o 0 ∧ o ≠ xR w (xR w o 0) 0
theorem XKo_k {b A D r m : Nat} {N : List Nat} {o : Nat} {E : Nat → Prop} {w' : xw} (h : XKo b A D r m N o w) (k : xk E w w') (hE : ∀ i, ¬ bC b A D i → ¬ E i) : XKo b A D r m N o w' := by
  obtain ⟨⟨a1, a2⟩, a3, a4, ⟨⟨b1, b2, b3⟩, b4, ⟨b5, b6⟩, b7, b8, b9, c1⟩, ⟨d1, d2, d3⟩, d4, d5⟩ := h
  obtain ⟨e1, e2, e3⟩ := k.2.2 o a2 (hE _ d1)
  obtain ⟨g1, g2, g3⟩ := k.2.2 _ b3 (hE _ d2)
  obtain ⟨i1, i2, i3⟩ := k.2.2 _ b6 (hE _ d3)
  have nn := k.1
  refine ⟨⟨by rw [k.2.1 o a2]; exact a1, by omega⟩, by rw [e1]; exact a3, by rw [e1]; exact a4, ?_, ?_, by rw [e3]; exact d4, by rw [e3, g3]; exact d5⟩
  · rw [e3]
    exact ⟨⟨by rw [k.2.1 _ b3]; exact b1, b2, by omega⟩, by rw [g1]; exact b4, ⟨by rw [g3]; exact b5, by rw [g3]; omega⟩, by rw [g3, k.2.1 _ b6]; exact b7, fun j hj => by rw [g3, i1]; exact b8 j hj, b9, c1⟩
  · rw [e3, g3]; exact ⟨d1, d2, d3⟩
theorem XKo_q {b A D r m : Nat} {N : List Nat} {o : Nat} {w' : xw} (hb : 794 ≤ b) (h : XKo b A D r m N o w) (k : xq w w') : XKo b A D r m N o w' := XKo_k h (xk_q k) (fun i hi z => by unfold bC at hi; omega)
theorem fC_n {b A D A' lim N i : Nat} (h : fC b A D lim i) (hl : lim ≤ N) (ha : A' = A ∨ A' = N) : fC b A' D N i := ⟨by have := h.1; omega, fun z => by have h1 := h.1; have h2 := h.2; unfold bC at *; omega⟩
theorem fC_d {b A D D' lim N i : Nat} (h : fC b A D lim i) (hl : lim ≤ N) (ha : D' = D ∨ D' = N) : fC b A D' N i := ⟨by have := h.1; omega, fun z => by have h1 := h.1; have h2 := h.2; unfold bC at *; omega⟩
theorem XLa_ne {L : List Nat} {l A cap : Nat} (h : XLa L l A cap w) : A < xN w ∧ l < xN w := ⟨h.2.2.1.2.2.1, h.1.2.2⟩
/-- the kinds of the Border take one more -/
theorem x_kadd {wd hg n b r m o : Nat} {t : TB} {KL RL : List Nat} {A D lim : Nat} {q : List Nat} (h : XTx wd hg t n b KL RL A D lim w) (hlim : lim ≤ xN w) (hl : (tK t).length ≤ 5) (ho : XKo b A D r m (q.map (fun c => c + 96)) o w) (hb : 1 ≤ (xB w).1 ∧ 100 ≤ (xB w).2)
    (qo : ∀ w', xk (fun i => b ≤ i) w w' → XTB wd hg (tK t ++ [(q, r, m)], tS t, tL t, tN t, tR t) n b w' → Q (some (.int (nI 1))) w') : V_J2_add [.ref (b + 1), .ref o] w Q := by
  obtain ⟨hs, hz, h0, ⟨c1, c2, ⟨cA, hA⟩, cD, hD⟩, ⟨k1, k2⟩, ⟨r1, r2⟩, g⟩ := id h
  obtain ⟨⟨b1, b8, b83⟩, _⟩ := id hs
  have hlist := hA.2.2.2.2.1
  have h7 : (xS w o).1 = 7 := ho.1.1
  refine x_add hA ⟨by rw [h7]; omega, by rw [h7]; omega⟩ ho.1.2 (by omega) (fun e => by omega) (fun w3 r3 => ?_)
  obtain ⟨A', cap', A3, k3, n3, a3, hcap, _, _, _⟩ := r3
  have nn := k3.1
  have lA := XLa_ne hA
  have lD := XLa_ne hD
  have c := fun i (h1 : b ≤ i) (h2 : i < b + 83) (h3 : i ≠ b + 1) (h4 : i ≠ b + 2) => k3.2.2 i (by omega) (by omega)
  have nE : ∀ i, ¬ bC b A D i → ¬ (i = b + 1 ∨ i = A) := fun i hi z => hi (by unfold bC; omega)
  have gb : ∀ i, ¬ bC b A D i → i < xN w → fC b A' D (xN w) i := fun i h1 h2 => ⟨h2, fun z => h1 (by unfold bC at *; omega)⟩
  refine qo w3 (xk_wk k3 (fun i _ hi => by omega)) ⟨KL ++ [o], RL, A', D, xN w, nn, XBs_s hs k3.1 k3.2.1 ⟨(c b (by omega) (by omega) (by omega) (by omega)).2.2, (c _ (by omega) (by omega) (by omega) (by omega)).2.2, (c _ (by omega) (by omega) (by omega) (by omega)).2.2⟩, XBz_s hz (fun p hp => (c _ (by omega) (by omega) (by omega) (by omega)).1) (c b (by omega) (by omega) (by omega) (by omega)).2.1 (fun p hp => (c _ (by omega) (by omega) (by omega) (by omega)).2.1), by rw [(c b (by omega) (by omega) (by omega) (by omega)).1]; exact h0, ⟨by omega, c2, ⟨cap', A3⟩, cD, XLa_k hD k3 (by omega) (by omega)⟩, ⟨?_, fun j hj => ?_⟩, ⟨r1, fun j hj => ?_⟩, fun p hp => ?_⟩
  · show (KL ++ [o]).length = (tK t ++ [(q, r, m)]).length
    rw [List.length_append, List.length_append, k1]; rfl
  · have hj : j < (tK t ++ [(q, r, m)]).length := hj
    rw [List.length_append] at hj
    have hj : j < (tK t).length + 1 := hj
    show XKi ((tK t ++ [(q, r, m)]).getD j ([], 0, 0)) _ w3 ∧ _
    by_cases cj : j < (tK t).length
    · rw [gdA _ _ _ _ cj, gdA _ _ _ _ (by omega)]
      obtain ⟨d1, d2, d3, d4⟩ := k2 j cj
      have o1 := d1.1.2
      have o2 := d1.2.2.2.1.2.2
      have e3 := (k3.2.2 _ o1 (nE _ d2.2)).2.2
      have e4 := (k3.2.2 _ o2 (nE _ d3.2)).2.2
      refine ⟨XKi_k d1 k3 (nE _ d2.2) (nE _ d3.2) (nE _ d4.2), fC_n d2 hlim a3, ?_, ?_⟩
      · rw [e3]; exact fC_n d3 hlim a3
      · rw [e3, e4]; exact fC_n d4 hlim a3
    · have ej : j = (tK t).length := by omega
      subst ej
      rw [gdB, ← k1, gdB]
      have ho3 := XKo_k ho k3 nE
      obtain ⟨d1, d2, d3, d4, ⟨d5, d6, d7⟩, _, _⟩ := ho3
      obtain ⟨y1, y2, y3, y4, ⟨y5, y6, y7⟩, _, _⟩ := ho
      have e3 := (k3.2.2 _ y1.2 (nE _ y5)).2.2
      have e4 := (k3.2.2 _ y4.1.2.2 (nE _ y6)).2.2
      refine ⟨⟨d1, d2, d3, d4⟩, gb _ y5 y1.2, ?_, ?_⟩
      · rw [e3]; exact gb _ y6 y4.1.2.2
      · rw [e3, e4]; exact gb _ y7 y4.2.2.1.2
  · obtain ⟨d1, d2⟩ := r2 j hj
    exact ⟨XRu_k d1 k3 (nE _ d2.2) (fun i hi => ⟨by have := hi.1; omega, nE i hi.2⟩) (fun i hi => fC_n hi hlim a3), fC_n d2 hlim a3⟩
  · rw [(c (b + 5) (by omega) (by omega) (by omega) (by omega)).1, (c (b + 6) (by omega) (by omega) (by omega) (by omega)).1, (c (b + 7) (by omega) (by omega) (by omega) (by omega)).1]; exact g p hp
theorem mk_stop {f : Nat} {h s c : Bool} {a : Nat} (h1 : hereB T a (wT 13) = true → h = true) (h2 : hereB T a (wT 14) = true → s = true) (h3 : hereB T a (wT 15) = true → c = true) : mkP T f h s c a = (mk3 h s c, sk T a) := by
  cases f with
  | zero => rfl
  | succ f =>
    have e : mkP T (f + 1) h s c a = if hereB T a (wT 13) = true then (if h = true then (mk3 h s c, sk T a) else mkP T f true s c (sk T a + 4))
      else if hereB T a (wT 14) = true then (if s = true then (mk3 h s c, sk T a) else mkP T f h true c (sk T a + 4))
      else if hereB T a (wT 15) = true then (if c = true then (mk3 h s c, sk T a) else mkP T f h s true (sk T a + 5))
      else (mk3 h s c, sk T a) := rfl
    rw [e]
    by_cases c1 : hereB T a (wT 13) = true
    · rw [if_pos c1, if_pos (h1 c1)]
    · rw [if_neg c1]
      by_cases c2 : hereB T a (wT 14) = true
      · rw [if_pos c2, if_pos (h2 c2)]
      · rw [if_neg c2]
        by_cases c3 : hereB T a (wT 15) = true
        · rw [if_pos c3, if_pos (h3 c3)]
        · rw [if_neg c3]
theorem here_le9 {a : Nat} {W : List Nat} (h : hereB T a W = true) : leB T (sk T a) = true := by
  unfold hereB isWd at h
  unfold leB
  rw [Bool.and_eq_true, Bool.and_eq_true] at h
  exact h.1.1
theorem XZw_sk {a : Nat} (h : XZw T a w) : XZw T (sk T a) w := by
  obtain ⟨h1, b, h2, h3⟩ := h
  exact ⟨sk_le T h1, b, by rw [sk_sk h1]; exact h2, h3⟩
def fl3 (k : Nat) (h s c : Bool) : Bool := if k = 0 then h else if k = 1 then s else c
def mkU (k : Nat) (h s c : Bool) : Nat := if k = 0 then mk3 true s c else if k = 1 then mk3 h true c else mk3 h s true
theorem mk_bit : ∀ k, k < 3 → ((1 : Int32) <<< (nI k &&& 31)) = nI (2 ^ k) := by decide
theorem mk_has {k : Nat} (hk : k < 3) (h s c : Bool) : (nI (mk3 h s c) &&& nI (2 ^ k) = (0 : Int32)) ↔ fl3 k h s c = false := by
  have : k = 0 ∨ k = 1 ∨ k = 2 := by omega
  rcases this with g | g | g <;> subst g
  · exact (mk3_a h s c).1
  · exact (mk3_a h s c).2.1
  · exact (mk3_a h s c).2.2
theorem mk_or {k : Nat} (hk : k < 3) (h s c : Bool) : nI (mk3 h s c) ||| nI (2 ^ k) = nI (mkU k h s c) := by
  have : k = 0 ∨ k = 1 ∨ k = 2 := by omega
  rcases this with g | g | g <;> subst g
  · exact (mk3_o h s c).1
  · exact (mk3_o h s c).2.1
  · exact (mk3_o h s c).2.2
set_option maxHeartbeats 2000000 in
theorem km_step {wd hg n b r o : Nat} {t : TB} {KL RL : List Nat} {A D lim : Nat} {q : List Nat} (hl : (tK t).length < 5) {w0 : xw} (f : Nat) (h s c : Bool) (a : Nat) (w : xw) (hq : xqb b w0 w) (hb0 : b ≤ xN w0) (hlo : lim ≤ o) (hlw : lim ≤ xN w) (hz : XZw T a w) (ht : XTx wd hg t n b KL RL A D lim w) (hr : xR w 341 5 = b) (hk : XKo b A D r (mk3 h s c) (q.map (fun c => c + 96)) o w) (hb : 4 ≤ (xB w).1 ∧ 3400 ≤ (xB w).2)
    (qx : mkP T f h s c a = (mk3 h s c, sk T a) → chB T (sk T a) 59 = false → ∀ w', xqb b w0 w' → XBad 1 (sk T a) w' → (xS w' 342).1 = 4 → Qx 342 w')
    (qo : mkP T f h s c a = (mk3 h s c, sk T a) → ∀ w', xqb b w0 w' → XZw T (sk T a) w' → XTB wd hg (tK t ++ [(q, r, mk3 h s c)], tS t, tL t, tN t, tR t) n b w' → xR w' 341 5 = b → xI w' 341 4 = xI w 341 4 → Q none w')
    (nx : ∀ k, k < 3 → hereB T a (wT (13 + k)) = true → fl3 k h s c = false → ∀ w1, xqb b w0 w1 → XZ T (wl T (sk T a)) w1 → XTx wd hg t n b KL RL A D lim w1 → xR w1 341 5 = b → XKo b A D r (mkU k h s c) (q.map (fun c => c + 96)) o w1 → xI w1 341 4 = xI w 341 4 → ((xB w).1 ≤ (xB w1).1 + 3 ∧ (xB w).2 ≤ (xB w1).2 + (2 * (wl T (sk T a) - sk T a) + 10)) → ∀ {o1 o3 : Option Value}, T_X2_kind Qx Q 42 [some (.ref 341), o1, some (.ref o), o3] [] w1)
    {o1 o3 : Option Value} : T_X2_kind Qx Q 42 [some (.ref 341), o1, some (.ref o), o3] [] w := by
  have hal := hz.1
  have hN := XZw_n hz
  obtain ⟨_, p, hp, z⟩ := id hz
  have hT := z.1.1.2.2.2.2.1
  have l16 := hT.1
  have hsk := sk_is T hal
  have hss : sk T (sk T a) = sk T a := sk_sk hal
  have hbb := XTx_b ht
  have hwl := (spL_is T isLe (sk T a) hsk.2)
  have ewl : spL T isLe (sk T a) = wl T (sk T a) := rfl
  rw [ewl] at hwl
  have oC : 256 ≤ o := by have := hk.2.2.2.2.1.1; unfold bC at this; omega
  -- the kind is added
  have fin : mkP T f h s c a = (mk3 h s c, sk T a) → ∀ w1, fR w w1 → xB w1 = xB w → XRd T (sk T a) w1 → (xS w1 341).1 = 3 ∧ ¬ xR w1 341 5 = 0 ∧ ((xS w1 (xR w1 341 5)).1 = 2 ∧ ¬ xR w1 (xR w1 341 5) 4 = 0 ∧ (∃ C S : Nat, (C ≤ (xB w1).1 ∧ S ≤ (xB w1).2) ∧ ((xS (xSetB w1 (C, S)) (xR w1 (xR w1 341 5) 4)).1 = 17 ∧ V_J2_add [.ref (xR w1 (xR w1 341 5) 4), .ref o] (xSetB w1 (C, S)) (fun v w2 => T_X2_kind Qx Q 123 [some (.ref 341), none, some (.ref o), none] (v.toList ++ []) (xSetB w2 ((xB w1).1 - C, (xB w1).2 - S)))))) := by
    intro hm w1 f1 b1 r1
    have ht1 : XTx wd hg t n b KL RL A D lim w1 := XTx_q ht hlw (xq_f f1)
    have hk1 := XKo_q hbb.1 hk (xq_f f1)
    have hr1 : xR w1 341 5 = b := by rw [f1.2.1.2]; exact hr
    have n1 : xN w1 = xN w := f1.1.1
    have r4 : xR w1 b 4 = b + 1 := ht1.1.2.1.1
    rw [hr1, r4]
    refine ⟨r1.1.1.1, by omega, ht1.1.1.1, by omega, (xB w1).1, (xB w1).2, ⟨Nat.le_refl _, Nat.le_refl _⟩, ht1.2.2.2.1.2.2.1.choose_spec.1.1, x_kadd (w := xSetB w1 _) ht1 (by show lim ≤ xN w1; omega) (by omega) hk1 ⟨by rw [xB_sB, b1]; show 1 ≤ (xB w).1; omega, by rw [xB_sB, b1]; show 100 ≤ (xB w).2; omega⟩ (fun w2 k2 t2 => r_X2_kind_123 ⟨rfl, ?_⟩)⟩
    have k2 : xk (fun i => b ≤ i) w1 w2 := k2
    refine qo hm _ (xqb_trans (xqb_trans hq (xqb_q (xq_f f1) (by omega))) (xqb_k k2 (fun i hi => hi) (by omega))) ?_ t2 ?_ ?_
    · exact XZw_k (w := w1) (w' := w2) ⟨hsk.2, sk T a, rfl, ⟨r1, XC_q z.2 (xq_f f1) hN⟩⟩ k2 (fun i hi => by omega)
    · show xR w2 341 5 = b
      rw [(k2.2.2 341 (by omega) (by omega)).2.2]; exact hr1
    · show xI w2 341 4 = _
      rw [(k2.2.2 341 (by omega) (by omega)).1, f1.2.2 341 4 (by omega) (by omega)]
  refine r_X2_kind_42 ⟨z.1.1.1.1, x_here (w0 := w) p w z.1 (fR_refl w) rfl (fun w1 f1 b1 r1 j1 => r_X2_kind_46 ?_)⟩
  rw [hp] at r1 ⊢
  have hc59 : (ch T (sk T a) = (59 : Int32)) ↔ chB T (sk T a) 59 = true := ch_B hT (c := 59) (by omega)
  rw [hc59]
  refine ⟨fun g => fin (mk_stop (fun y => ?_) (fun y => ?_) (fun y => ?_)) w1 f1 b1 r1, fun g => ⟨r1.1.1.1, x_here (w0 := w1) (sk T a) w1 r1 (fR_refl w1) rfl (fun w2 f2 b2 r2 j2 => r_X2_kind_55 ?_)⟩⟩
  · rw [le_no (here_le9 y) (by omega)] at g; cases g
  · rw [le_no (here_le9 y) (by omega)] at g; cases g
  · rw [le_no (here_le9 y) (by omega)] at g; cases g
  have g59 : chB T (sk T a) 59 = false := by
    cases hcc : chB T (sk T a) 59 with
    | false => rfl
    | true => exact absurd hcc g
  rw [hss] at r2 ⊢
  rw [ch_end hT]
  have f12 : fR w w2 := fR_trans f1 f2
  have b12 : xB w2 = xB w := b2.trans b1
  have q2 : xq w w2 := xq_f f12
  have n2 : xN w2 = xN w := f12.1.1
  have z2 : XZ T (sk T a) w2 := ⟨r2, XC_q z.2 q2 hN⟩
  have hq2 : xqb b w0 w2 := xqb_trans hq (xqb_q q2 (by omega))
  refine ⟨fun g => fin (mk_stop (fun y => ?_) (fun y => ?_) (fun y => ?_)) w2 f12 b12 r2, fun g => ⟨r2.1.1.1, ?_⟩⟩
  · have := here_le9 y
    unfold leB at this
    rw [Bool.and_eq_true, decide_eq_true_eq] at this
    exact absurd this.1 g
  · have := here_le9 y
    unfold leB at this
    rw [Bool.and_eq_true, decide_eq_true_eq] at this
    exact absurd this.1 g
  · have := here_le9 y
    unfold leB at this
    rw [Bool.and_eq_true, decide_eq_true_eq] at this
    exact absurd this.1 g
  obtain ⟨S1, hS1⟩ : ∃ S, S = 2 * (wl T (sk T a) - sk T a) + 10 := ⟨_, rfl⟩
  refine ⟨3, S1, ⟨by rw [b12]; omega, by rw [b12]; omega⟩, x_wordW (T := T) (a := sk T a) (w := xSetB w2 (3, S1)) ⟨hsk.2, sk T a, rfl, z2⟩ ⟨Nat.le_refl _, by rw [hss]; exact Nat.le_of_eq hS1.symm⟩ (fun hi w3 f3 e3 s3 => ?_) (fun hi w3 f3 z3 fr3 op3 S3 _ => r_X2_kind_63 ?_)⟩
  · rw [hss] at hi e3
    have no : ∀ k, hereB T a (wT k) = false := fun k => by unfold hereB; rw [hi]; rfl
    exact qx (mk_stop (fun y => by rw [no] at y; cases y) (fun y => by rw [no] at y; cases y) (fun y => by rw [no] at y; cases y)) g59 _ (xqb_trans hq2 (xqb_q (w := w2) f3 (by omega))) e3 s3
  rw [hss] at hi z3 fr3 S3
  have f3 : xq w2 w3 := f3
  have hN3 := XZ_n z3
  have n3 := f3.1
  have c3 := z3.2
  have hq3 : xqb b w0 w3 := xqb_trans hq2 (xqb_q f3 (by omega))
  have hh := fun k => here_is (T := T) (a := a) (k := k) hi
  have S3 : XStr (wB T (sk T a)) (xN w2 + 1) w3 := S3
  have z3 : XZ T (wl T (sk T a)) w3 := z3
  have fr3 : xI w3 341 3 = nI (sk T a) := fr3
  refine x_find (w := xSetB w3 _) (S := wB T (sk T a)) (f := fun k => wT (13 + k)) S3 (by show 256 ≤ xN w2 + 1; omega) (by omega) c3.2.2.2.1.1 (fun k hk => by
    have e := c3.2.2.2.1.2 k hk
    show XStr (wT (13 + k)) (xR w3 3 k) w3
    rw [e]; exact (c3.1 (13 + k) (by omega) (by omega)).1) (r_X2_kind_69 ?_)
  have fk : ∀ k, decide (wT (13 + k) = wB T (sk T a)) = hereB T a (wT (13 + k)) := fun k => by rw [hh]; exact decide_eq_decide.mpr ⟨fun h => h.symm, fun h => h.symm⟩
  rw [show (fun k => decide (wT (13 + k) = wB T (sk T a))) = fun k => hereB T a (wT (13 + k)) from funext fk]
  have bad : mkP T f h s c a = (mk3 h s c, sk T a) → ∀ B (R : Option Value → xw → Prop), (∀ w9, (xS w9 342).1 = 4 → Qx 342 w9 → R (some (.ref 342)) w9) → V_X2_wrong [.ref 341, .int 1, .int (xI (xSetB w3 B) 341 3)] (xSetB w3 B) R := fun hm B R hR => by
    refine x_wrong (T := T) (kd := 1) (pl := sk T a) (by exact z3.1.1) rfl (by exact fr3) (fun w4 f4 b4 e4 s4 _ => hR w4 s4 (qx hm g59 w4 (xqb_trans hq3 (xqb_q (w := w3) (xq_f f4) (by omega))) e4 s4))
  rcases fstP_ex (f := fun k => hereB T a (wT (13 + k))) (n := 3) with ⟨g1, g2⟩ | ⟨k, g1, hk3, g2, g3⟩
  · rw [g1]
    have no : ∀ k, k < 3 → ¬ (hereB T a (wT (13 + k)) = true) := fun k hk y => by rw [g2 k hk] at y; cases y
    exact ⟨fun _ => ⟨z3.1.1.1.1, z3.1.1.1.1, bad (mk_stop (fun y => absurd y (no 0 (by omega))) (fun y => absurd y (no 1 (by omega))) (fun y => absurd y (no 2 (by omega)))) _ _ (fun w9 s9 h9 => r_X2_kind_94 ⟨s9, h9⟩)⟩, fun z => absurd rfl z⟩
  · rw [g1]
    have hki : ¬ (fdI (some k) = -1) := fun z => by
      have : (nI k).toInt = -1 := by rw [show nI k = -1 from z]; decide
      rw [n_T (by omega)] at this; omega
    have ht3 : XTx wd hg t n b KL RL A D lim w3 := XTx_q (XTx_q ht hlw q2) (by omega) f3
    have op3' : xI w3 341 4 = xI w2 341 4 := op3
    have hk33 := XKo_q hbb.1 (XKo_q hbb.1 hk q2) f3
    have hr3 : xR w3 341 5 = b := by rw [(f3.2.1 341 (by omega)).2.2, f12.2.1.2]; exact hr
    refine ⟨fun z => absurd z hki, fun _ => ⟨hk33.1.1, e_X7_has (r_X7_has_0 ?_)⟩⟩
    have em : ∀ B, xI (xSetB w3 B) o 2 = nI (mk3 h s c) := fun _ => hk33.2.2.1
    have ek : (1 : Int32) <<< (fdI (some k) &&& 31) = nI (2 ^ k) := mk_bit k hk3
    rw [em, ek, mk_has hk3]
    have hone : ∀ j, j < 3 → j ≠ k → ¬ (hereB T a (wT (13 + j)) = true) := fun j hj hjk y => by
      have := here_one (i := 13 + k) (j := 13 + j) (by omega) (by omega) (by omega) g2
      rw [this] at y; cases y
    refine ⟨hk33.1.1, fun hfl => ⟨nr_0, r_X2_kind_82 ⟨fun _ => ⟨hk33.1.1, hk33.1.1, oC, ?_⟩, fun y => absurd rfl y⟩⟩, fun hfl => ⟨nr_1, r_X2_kind_82 ⟨fun y => absurd y (by decide), fun _ => ⟨z3.1.1.1.1, z3.1.1.1.1, bad (mk_stop (fun y => ?_) (fun y => ?_) (fun y => ?_)) _ _ (fun w9 s9 h9 => r_X2_kind_94 ⟨s9, h9⟩)⟩⟩⟩⟩
    · rw [em, ek, mk_or hk3]
      have kU : xk (fun i => i = o) w3 (xUpI w3 o 2 (nI (mkU k h s c))) := xk_uI (E := fun i => i = o) (xk_refl _ w3) (Or.inl rfl)
      have oN := hk33.2.2.2.2.1.1
      have oN2 : ¬ (o < b + 83 ∨ o = A ∨ o = D) := oN
      have e3 : ∀ i, i ≠ o → ¬ ((fun i => i = o) i) := fun i hi z => hi z
      refine nx k hk3 g2 hfl (xUpI (xSetB w3 ((xB w2).1 - 3, (xB w2).2 - S1)) o 2 (nI (mkU k h s c))) (xqb_trans hq3 (xqb_k (w := w3) kU (fun i hi => by omega) (by omega))) (XZ_k (w := w3) z3 kU (fun i hi => by omega)) ?_ hr3 ?_ ?_ ?_
      · exact XTx_f (w := w3) ht3 (by omega) kU (fun i hi => by omega)
      · obtain ⟨⟨y1, y2⟩, y3, y4, y5, y6, y7, y8⟩ := id hk33
        refine ⟨⟨y1, y2⟩, ?_, ?_, ?_, y6, y7, y8⟩
        · show xI (xUpI w3 o 2 (nI (mkU k h s c))) o 1 = _
          rw [x_uI, if_neg (by omega)]; exact y3
        · show xI (xUpI w3 o 2 (nI (mkU k h s c))) o 2 = _
          rw [x_uI, if_pos ⟨rfl, rfl⟩]
        · obtain ⟨s1, s2, s3, s4, s5, s6, s7⟩ := y5
          refine ⟨s1, ?_, s3, s4, fun j hj => ?_, s6, s7⟩
          · show xI (xUpI w3 o 2 (nI (mkU k h s c))) (xR w3 o 0) 1 = 0
            rw [x_uI, if_neg (fun z => y7 z.1.symm)]; exact s2
          · show xI (xUpI w3 o 2 (nI (mkU k h s c))) (xR w3 (xR w3 o 0) 0) j = _
            rw [x_uI, if_neg (fun z => y8 z.1.symm)]; exact s5 j hj
      · show xI (xUpI w3 o 2 (nI (mkU k h s c))) 341 4 = _
        rw [x_uI, if_neg (by omega), op3', f12.2.2 341 4 (by omega) (by omega)]
      · show (xB w).1 ≤ (xB w2).1 - 3 + 3 ∧ (xB w).2 ≤ (xB w2).2 - S1 + _
        rw [b12]; omega
    · by_cases e : k = 0
      · subst e
        have flt : ¬ (h = false) := hfl
        cases h
        · exact absurd rfl flt
        · rfl
      · exact absurd y (hone 0 (by omega) (fun z => e z.symm))
    · by_cases e : k = 1
      · subst e
        have flt : ¬ (s = false) := hfl
        cases s
        · exact absurd rfl flt
        · rfl
      · exact absurd y (hone 1 (by omega) (fun z => e z.symm))
    · by_cases e : k = 2
      · subst e
        have flt : ¬ (c = false) := hfl
        cases c
        · exact absurd rfl flt
        · rfl
      · exact absurd y (hone 2 (by omega) (fun z => e z.symm))
set_option maxHeartbeats 1000000 in
theorem km_42 {wd hg n b r o : Nat} {t : TB} {KL RL : List Nat} {A D lim : Nat} {q : List Nat} (hl : (tK t).length < 5) {w0 : xw} (hb0 : b ≤ xN w0) (hlo : lim ≤ o) : ∀ (f : Nat) (h s c : Bool) (a : Nat) (w : xw), cf3 h s c = f → xqb b w0 w → lim ≤ xN w → XZw T a w → XTx wd hg t n b KL RL A D lim w → xR w 341 5 = b → XKo b A D r (mk3 h s c) (q.map (fun c => c + 96)) o w → (3 * f + 4 ≤ (xB w).1 ∧ 20 * f + 3400 ≤ (xB w).2) →
    (∀ m a1, mkP T f h s c a = (m, a1) → chB T (sk T a1) 59 = false → ∀ w', xqb b w0 w' → XBad 1 (sk T a1) w' → (xS w' 342).1 = 4 → Qx 342 w') →
    (∀ m a1, mkP T f h s c a = (m, a1) → ∀ w', xqb b w0 w' → XZw T a1 w' → XTB wd hg (tK t ++ [(q, r, m)], tS t, tL t, tN t, tR t) n b w' → xR w' 341 5 = b → xI w' 341 4 = xI w 341 4 → Q none w') →
    ∀ {o1 o3 : Option Value}, T_X2_kind Qx Q 42 [some (.ref 341), o1, some (.ref o), o3] [] w := by
  intro f
  induction f with
  | zero =>
    intro h s c a w hc hq hlw hz ht hr hk hb qx qo o1 o3
    have hss := sk_sk hz.1
    refine km_step hl 0 h s c a w hq hb0 hlo hlw hz ht hr hk (by omega) (fun e g w' f' e' s' => qx _ _ e (by rw [hss]; exact g) w' f' (by rw [hss]; exact e') s') (fun e w' f' z' t' r' o' => qo _ _ e w' f' z' t' r' o') (fun k hk3 _ hfl => ?_)
    exfalso
    unfold cf3 at hc
    unfold fl3 at hfl
    have : k = 0 ∨ k = 1 ∨ k = 2 := by omega
    rcases this with g | g | g <;> subst g <;> cases h <;> cases s <;> cases c <;> first | exact absurd hfl (by decide) | exact absurd hc (by decide)
  | succ f ih =>
    intro h s c a w hc hq hlw hz ht hr hk hb qx qo o1 o3
    have hss := sk_sk hz.1
    have hal := hz.1
    have e1 : mkP T (f + 1) h s c a = if hereB T a (wT 13) = true then (if h = true then (mk3 h s c, sk T a) else mkP T f true s c (sk T a + 4))
      else if hereB T a (wT 14) = true then (if s = true then (mk3 h s c, sk T a) else mkP T f h true c (sk T a + 4))
      else if hereB T a (wT 15) = true then (if c = true then (mk3 h s c, sk T a) else mkP T f h s true (sk T a + 5))
      else (mk3 h s c, sk T a) := rfl
    refine km_step hl (f + 1) h s c a w hq hb0 hlo hlw hz ht hr hk (by omega) (fun e g w' f' e' s' => qx _ _ e (by rw [hss]; exact g) w' f' (by rw [hss]; exact e') s') (fun e w' f' z' t' r' o' => qo _ _ e w' f' z' t' r' o') (fun k hk3 hh hfl w1 f1 z1 t1 r1 k1 o41 b1 {u1 u3} => ?_)
    have hw := here_w (k := 13 + k) (by omega) (by omega) hal hh
    have hone : ∀ j, j < 3 → j ≠ k → hereB T a (wT (13 + j)) = false := fun j hj hjk => here_one (i := 13 + k) (j := 13 + j) (by omega) (by omega) (by omega) hh
    have n1 := f1.1
    have lN : lim ≤ xN w1 := by have := k1.1.2; omega
    have k012 : k = 0 ∨ k = 1 ∨ k = 2 := by omega
    rcases k012 with g | g | g <;> subst g
    · have hfl : h = false := hfl
      subst hfl
      have hh : hereB T a (wT 13) = true := hh
      have ew : (wT (13 + 0)).length = 4 := rfl
      rw [ew] at hw
      rw [hw.1] at z1 b1
      rw [if_pos hh, if_neg (by decide)] at e1
      rw [e1] at qx qo
      exact ih true s c (sk T a + 4) w1 (by unfold cf3 at hc ⊢; cases s <;> cases c <;> simp at hc ⊢ <;> omega) f1 lN (XZw_s (XZs_of z1)) t1 r1 k1 (by omega) qx (fun m a1 hm w' f' z' t' r' o' => qo m a1 hm w' f' z' t' r' (o'.trans o41))
    · have hfl : s = false := hfl
      subst hfl
      have hh : hereB T a (wT 14) = true := hh
      have h13 : hereB T a (wT 13) = false := hone 0 (by omega) (by omega)
      have ew : (wT (13 + 1)).length = 4 := rfl
      rw [ew] at hw
      rw [hw.1] at z1 b1
      rw [h13, if_neg (by decide), if_pos hh, if_neg (by decide)] at e1
      rw [e1] at qx qo
      exact ih h true c (sk T a + 4) w1 (by unfold cf3 at hc ⊢; cases h <;> cases c <;> simp at hc ⊢ <;> omega) f1 lN (XZw_s (XZs_of z1)) t1 r1 k1 (by omega) qx (fun m a1 hm w' f' z' t' r' o' => qo m a1 hm w' f' z' t' r' (o'.trans o41))
    · have hfl : c = false := hfl
      subst hfl
      have hh : hereB T a (wT 15) = true := hh
      have h13 : hereB T a (wT 13) = false := hone 0 (by omega) (by omega)
      have h14 : hereB T a (wT 14) = false := hone 1 (by omega) (by omega)
      have ew : (wT (13 + 2)).length = 5 := rfl
      rw [ew] at hw
      rw [hw.1] at z1 b1
      rw [h13, h14, if_neg (by decide), if_neg (by decide), if_pos hh, if_neg (by decide)] at e1
      rw [e1] at qx qo
      exact ih h s true (sk T a + 5) w1 (by unfold cf3 at hc ⊢; cases h <;> cases s <;> simp at hc ⊢ <;> omega) f1 lN (XZw_s (XZs_of z1)) t1 r1 k1 (by omega) qx (fun m a1 hm w' f' z' t' r' o' => qo m a1 hm w' f' z' t' r' (o'.trans o41))
theorem xqb_q2 {b : Nat} {w0 w1 w2 : xw} (h : xqb b w0 w1) (g : xq w1 w2) (hb : b ≤ xN w0) : xqb b w0 w2 := xqb_trans h (xqb_q g (Nat.le_trans hb h.1))
theorem XStr_k {S : List Nat} {o : Nat} {E : Nat → Prop} {w' : xw} (h : XStr S o w) (k : xk E w w') (h1 : ¬ E o) (h2 : ¬ E (xR w o 0)) : XStr S o w' ∧ xR w' o 0 = xR w o 0 := by
  obtain ⟨⟨b1, b2, b3⟩, b4, ⟨b5, b6⟩, b7, b8, b9, c1⟩ := h
  obtain ⟨g1, g2, g3⟩ := k.2.2 _ b3 h1
  obtain ⟨i1, i2, i3⟩ := k.2.2 _ b6 h2
  have nn := k.1
  exact ⟨⟨⟨by rw [k.2.1 _ b3]; exact b1, b2, by omega⟩, by rw [g1]; exact b4, ⟨by rw [g3]; exact b5, by rw [g3]; omega⟩, by rw [g3, k.2.1 _ b6]; exact b7, fun j hj => by rw [g3, i1]; exact b8 j hj, b9, c1⟩, by rw [g3]⟩
theorem x_nameW {a : Nat} (h : XZw T a w) (hb : 3 ≤ (xB w).1 ∧ 2 * (wl T (sk T a) - sk T a) + 10 ≤ (xB w).2)
    (qe : ∀ kd pl, nmP T a = .inl (kd, pl) → ∀ w', xq w w' → XBad kd pl w' → (xS w' 342).1 = 4 → Qx 342 w')
    (qo : ∀ e, nmP T a = .inr e → ∀ w', xq w w' → XZ T e w' → xI w' 341 3 = nI (sk T a) → xI w' 341 4 = xI w 341 4 → XStr (wB T (sk T a)) (xN w + 1) w' → xR w' (xN w + 1) 0 = xN w + 1 + 1 → Q (some (.ref (xN w + 1))) w') : V_X2_name [.ref 341] w Q Qx := by
  obtain ⟨_, p, hp, z⟩ := h
  have en : nmP T p = nmP T a := by unfold nmP; rw [hp]
  rw [← en] at qe qo
  refine x_name z (by rw [hp]; exact hb) qe (fun e he w' f' z' fr' op' S' n' r' => ?_)
  rw [hp] at fr' S'
  exact qo e he w' f' z' fr' op' S' r'
set_option maxHeartbeats 2000000 in
theorem x_kindT {a wd hg n b : Nat} {t : TB} {w0 : xw} (hz : XZw T a w) (hq0 : xqb b w0 w) (hb0 : b ≤ xN w0) (hto : XTo wd hg t n b w) (hl : (tK t).length < 5) (hb : 30 ≤ (xB w).1 ∧ 2 * (wl T (sk T a) - sk T a) + 8000 ≤ (xB w).2)
    (qe : ∀ kd pl, kiP T (tK t) a = .inl (kd, pl) → ∀ w', xqb b w0 w' → XBad kd pl w' → (xS w' 342).1 = 4 → Qx 342 w')
    (qx : ∀ q a1, kiP T (tK t) a = .inr (q, a1) → chB T (sk T a1) 59 = false → ∀ w', xqb b w0 w' → XBad 1 (sk T a1) w' → (xS w' 342).1 = 4 → Qx 342 w')
    (qo : ∀ q a1, kiP T (tK t) a = .inr (q, a1) → ∀ w', xqb b w0 w' → XZw T a1 w' → XTo wd hg (tK t ++ [q], tS t, tL t, tN t, tR t) n b w' → xI w' 341 4 = xI w 341 4 → Q none w') : V_X2_kind [.ref 341] w Q Qx := by
  have hal := hz.1
  have hN := XZw_n hz
  have hsk := sk_is T hal
  have hbb := XTB_b hto.1
  have s341 : (xS w 341).1 = 3 := by obtain ⟨_, b, _, z⟩ := hz; exact z.1.1.1.1
  obtain ⟨S1, hS1⟩ : ∃ S, S = 2 * (wl T (sk T a) - sk T a) + 10 := ⟨_, rfl⟩
  unfold kiP at qe qx qo
  refine e_X2_kind (r_X2_kind_0 ⟨s341, 3, S1, ⟨by omega, by omega⟩, x_nameW (w := xSetB w (3, S1)) hz ⟨Nat.le_refl _, Nat.le_of_eq hS1.symm⟩ (fun kd pl hn w1 f1 e1 s1 => qe kd pl (by rw [hn]) _ (xqb_q2 hq0 (w1 := w) f1 hb0) e1 s1) (fun e hn w1 f1 z1 fr1 op1 S1' ar1 => r_X2_kind_4 ⟨z1.1.1.1.1, ?_⟩)⟩)
  rw [hn] at qe qx qo
  have f1 : xq w w1 := f1
  have nn1 := f1.1
  have q1 : xqb b w0 w1 := xqb_q2 hq0 f1 hb0
  have to1 := XTo_q hto f1 hN
  have S1' : XStr (wB T (sk T a)) (xN w + 1) w1 := S1'
  have ar1 : xR w1 (xN w + 1) 0 = xN w + 1 + 1 := ar1
  have z1 : XZ T e w1 := z1
  have fr1 : xI w1 341 3 = nI (sk T a) := fr1
  have op1 : xI w1 341 4 = xI w 341 4 := op1
  have nmo := nm_ok hal hn
  have hwl := (spL_is T isLe (sk T a) hsk.2)
  have ewl : spL T isLe (sk T a) = wl T (sk T a) := rfl
  rw [ewl] at hwl
  have ee : e = wl T (sk T a) := by
    unfold nmP at hn
    split at hn
    · split at hn
      · cases hn
      · cases hn; rfl
    · cases hn
  refine x_kindOf (w := xSetB w1 _) z1.1.1.1.1 to1 (by omega) hsk.2 S1' (by show 256 ≤ xN w + 1; omega) (r_X2_kind_10 ?_)
  rw [← ee]
  have hneg : (fdI (kdL (tK t) (wdL T (sk T a) (e - sk T a))) = (-1 : Int32)) ↔ kdL (tK t) (wdL T (sk T a) (e - sk T a)) = none := by
    cases hk : kdL (tK t) (wdL T (sk T a) (e - sk T a)) with
    | none => exact ⟨fun _ => rfl, fun _ => rfl⟩
    | some k =>
      have kl := kdL_lt hk
      refine ⟨fun z => ?_, fun z => by cases z⟩
      have : (nI k).toInt = -1 := by rw [show nI k = -1 from z]; decide
      rw [n_T (by omega)] at this; omega
  rw [hneg]
  have frB : ∀ B, xI (xSetB w1 B) 341 3 = nI (sk T a) := fun _ => fr1
  rw [frB]
  refine ⟨fun hk0 => ?_, fun hk0 => ⟨z1.1.1.1.1, z1.1.1.1.1, x_wrong (T := T) (kd := 3) (pl := sk T a) (by exact z1.1.1) rfl rfl (fun w2 f2 b2 e2 s2 _ => r_X2_kind_23 ⟨s2, qe 3 (sk T a) (if_pos hk0) w2 (xqb_q2 q1 (xq_f (w := w1) f2) hb0) e2 s2⟩)⟩⟩
  have hk9 : ¬ (kdL (tK t) (wdL T (sk T a) (e - sk T a)) ≠ none) := fun z => z hk0
  simp only [if_neg hk9] at qe qx qo
  -- the Kind
  have n6 : xNf 6 ≤ 6 := by decide
  have kn : xk (fun _ => False) w1 (xNew1 w1 (7, 0) (xNf 6)) := xk_n1 (xk_refl _ w1) _ _
  have qn : xq w1 (xNew1 w1 (7, 0) (xNf 6)) := xq_k kn
  have s2 : xS (xNew1 w1 (7, 0) (xNf 6)) (xN w1) = (7, 0) := n1_S0
  have z2 : XZ T e (xNew1 w1 (7, 0) (xNf 6)) := XZ_k z1 kn (fun i hi => hi.elim)
  have q2 : xqb b w0 (xNew1 w1 (7, 0) (xNf 6)) := xqb_q2 q1 qn hb0
  refine ⟨⟨by show 1 ≤ (xB w).1 - 3; omega, by show xNf 6 ≤ (xB w).2 - S1; omega⟩, z2.1.1.1.1, 3, 3300, ⟨by show 3 ≤ (xB w).1 - 3 - 1; omega, by show 3300 ≤ (xB w).2 - S1 - xNf 6; omega⟩, ?_⟩
  have l16 : T.length ≤ 1600 := z1.1.1.2.2.2.2.1.1
  have hel := z1.1.2.2
  have hske := sk_is T hel
  have hwle := (spL_is T isLe (sk T e) hske.2)
  have ewle : spL T isLe (sk T e) = wl T (sk T e) := rfl
  rw [ewle] at hwle
  refine x_number2 (w := xSetB (xNew1 (xSetB w1 _) (7, 0) (xNf 6)) (3, 3300)) (k := 12) (lo := 1) (hi := 6) z2 (by omega) (by omega) rfl rfl (by omega) (by omega) ⟨Nat.le_refl _, by show _ ≤ 3300; omega⟩ (fun kd pl hk w3 f3 e3 s3 => ?_) (fun hh r a1 hnum w3 f3 z3 fr3 op3 _ => r_X2_kind_38 ?_)
  · refine qe kd pl ?_ _ (xqb_q2 q2 f3 hb0) e3 s3
    rcases hk with ⟨g1, g2, g3⟩ | ⟨g1, g2⟩
    · rw [g1, g2, g3]; rfl
    · have hw := here_w (k := 12) (by omega) (by omega) hel g1
      have ew : (wT 12).length = 5 := rfl
      rw [hw.1, ew] at g2
      rw [if_pos g1, g2]
  have hw := here_w (k := 12) (by omega) (by omega) hel hh
  have ew : (wT 12).length = 5 := rfl
  rw [ew] at hw
  rw [hw.1] at hnum
  rw [if_pos hh, hnum] at qe qx qo
  have f3 : xq (xNew1 w1 (7, 0) (xNf 6)) w3 := f3
  have nn3 : xN w1 + 1 ≤ xN w3 := f3.1
  have q3 : xqb b w0 w3 := xqb_q2 q2 f3 hb0
  have s3 : (xS w3 (xN w1)).1 = 7 := by rw [(xk_q f3).2.1 (xN w1) (by show xN w1 < xN w1 + 1; omega), s2]
  have z3 : XZ T a1 w3 := z3
  have f13 : xq w1 w3 := xq_trans qn f3
  have op3 : xI w3 341 4 = xI w 341 4 := by
    have e1 : xI w3 341 4 = xI (xNew1 w1 (7, 0) (xNf 6)) 341 4 := op3
    rw [e1, (kn.2.2 341 (by omega) (fun z => z)).1]; exact op1
  obtain ⟨⟨KL, RL, A, D, lim, hlim, tx⟩, hr⟩ := id hto
  have hAD := XTx_AD tx
  have tx1 := XTx_q tx hlim f1
  have tx3 := XTx_q tx1 (by omega) f13
  have hr3 : xR w3 341 5 = b := by rw [(f13.2.1 341 (by omega)).2.2]; exact to1.2
  have sl := S1'.1.2.2
  have sl2 := S1'.2.2.1.2
  rw [ar1] at sl2
  obtain ⟨S3, ar3⟩ := XStr_k S1' (xk_q f13) (by omega) (by omega)
  rw [ar1] at ar3
  have i3 : ∀ j, xI w3 (xN w1) j = 0 := fun j => by
    rw [f3.2.2 (xN w1) j (by show xN w1 < xN w1 + 1; omega) (by omega) (by omega)]; exact n1_I0
  obtain ⟨w4, hw4⟩ : ∃ w4, w4 = xUpI (xUpR w3 (xN w1) 0 (xN w + 1)) (xN w1) 1 (nI r) := ⟨_, rfl⟩
  have kU : xk (fun i => i = xN w1) w3 w4 := by rw [hw4]; exact xk_uI (E := fun i => i = xN w1) (xk_uR (E := fun i => i = xN w1) (xk_refl _ w3) (Or.inl rfl)) (Or.inl rfl)
  have n4 : xN w4 = xN w3 := by rw [hw4]; rfl
  have s4 : (xS w4 (xN w1)).1 = 7 := by rw [hw4]; exact s3
  have r40 : xR w4 (xN w1) 0 = xN w + 1 := by rw [hw4]; exact if_pos ⟨rfl, rfl⟩
  have i41 : xI w4 (xN w1) 1 = nI r := by rw [hw4]; exact if_pos ⟨rfl, rfl⟩
  have i42 : xI w4 (xN w1) 2 = 0 := by
    rw [hw4, x_uI, if_neg (by omega)]; exact i3 2
  obtain ⟨S4, ar4⟩ := XStr_k S3 kU (by omega) (by rw [ar3]; omega)
  rw [ar3] at ar4
  have z4 : XZ T a1 w4 := XZ_k z3 kU (fun i hi => by omega)
  have tx4 : XTx wd hg t n b KL RL A D lim w4 := XTx_f tx3 (by omega) kU (fun i hi => by omega)
  have hr4 : xR w4 341 5 = b := by rw [(kU.2.2 341 (by omega) (by omega)).2.2]; exact hr3
  have q4 : xqb b w0 w4 := xqb_trans q3 (xqb_k kU (fun i hi => by omega) (by omega))
  have hk4 : XKo b A D r (mk3 false false false) ((wdL T (sk T a) (e - sk T a)).map (fun c => c + 96)) (xN w1) w4 := by
    refine ⟨⟨s4, by omega⟩, i41, i42, ?_, ?_, by rw [r40]; omega, by rw [r40, ar4]; omega⟩
    · rw [r40, ee, wB_wd hsk.2]; exact S4
    · rw [r40, ar4]
      exact ⟨by unfold bC; omega, by unfold bC; omega, by unfold bC; omega⟩
  have o4 : xI w4 341 4 = xI w 341 4 := by rw [(kU.2.2 341 (by omega) (by omega)).1]; exact op3
  have go : ∀ B : Nat × Nat, 13 ≤ B.1 ∧ 3460 ≤ B.2 → T_X2_kind Qx Q 42 [some (.ref 341), none, some (.ref (xN w1)), none] [] (xSetB w4 B) := fun B hB =>
    km_42 (w0 := w0) (lim := lim) (r := r) hl hb0 (by omega) 3 false false false a1 (xSetB w4 B) rfl q4 (by show lim ≤ xN w4; omega) (XZw_s (XZs_of z4)) tx4 hr4 hk4 hB (fun m a2 hm g w' f' e' s' => qx (wdL T (sk T a) (e - sk T a), r, m) a2 (by show (Sum.inr ((wdL T (sk T a) (e - sk T a), r, (mkP T 3 false false false a1).1), (mkP T 3 false false false a1).2) : Sum (Nat × Nat) _) = _; rw [hm]) g w' f' e' s') (fun m a2 hm w' f' z' t' r' o' => qo (wdL T (sk T a) (e - sk T a), r, m) a2 (by show (Sum.inr ((wdL T (sk T a) (e - sk T a), r, (mkP T 3 false false false a1).1), (mkP T 3 false false false a1).2) : Sum (Nat × Nat) _) = _; rw [hm]) w' f' z' ⟨t', r'⟩ (o'.trans o4))
  rw [hw4] at go
  refine ⟨0, 0, ⟨Nat.zero_le _, Nat.zero_le _⟩, s3, e_X7_init (r_X7_init_0 ⟨Nat.le_of_ble_eq_true rfl, r_X7_init_4 ⟨s3, by show 256 ≤ xN w1; omega, by show ¬ (xN w + 1 = 0); omega, s3, by show 256 ≤ xN w1; omega, rfl, r_X2_kind_41 (go _ ?_)⟩⟩)⟩
  show 13 ≤ (xB w).1 - 3 - 1 - 3 - 0 ∧ 3460 ≤ (xB w).2 - S1 - xNf 6 - 3300 - 0
  omega
/-- some of the Border's own ints differ -/
theorem XTx_e {wd hg n b wd' hg' n' : Nat} {t t' : TB} {KL RL : List Nat} {A D lim : Nat} {w' : xw} (h : XTx wd hg t n b KL RL A D lim w) (hlim : lim ≤ xN w) (k : xk (fun i => i = b ∨ i = b + 5 ∨ i = b + 6 ∨ i = b + 7) w w') (hr : xR w' b = xR w b ∧ xL w' b = xL w b) (eK : tK t' = tK t) (eR : tR t' = tR t) (h0 : xI w' b 0 = nI wd' ∧ xI w' b 1 = nI hg' ∧ xI w' b 2 = nI n' ∧ xI w' b 3 = nI (tN t')) (g : ∀ p, p < 36 → xI w' (b + 5) p = sdI (tS t' p) ∧ (tS t' p ≠ 0 → xI w' (b + 6) p = nI ((tS t' p - 2) / 2)) ∧ xI w' (b + 7) p = ldI (tL t' p)) : XTx wd' hg' t' n' b KL RL A D lim w' := by
  obtain ⟨hs, hz, h9, ⟨c1, c2, ⟨cA, hA⟩, cD, hD⟩, ⟨k1, k2⟩, ⟨r1, r2⟩, g9⟩ := h
  obtain ⟨⟨b1, b8, b83⟩, _⟩ := id hs
  have c := fun i (h1 : b < i) (h2 : i < b + 83) (h3 : i ≠ b + 5 ∧ i ≠ b + 6 ∧ i ≠ b + 7) => k.2.2 i (by omega) (by omega)
  have nE : ∀ i, ¬ bC b A D i → ¬ (i = b ∨ i = b + 5 ∨ i = b + 6 ∨ i = b + 7) := fun i hi z => hi (by unfold bC; omega)
  refine ⟨XBs_s hs k.1 k.2.1 ⟨hr.1, (c _ (by omega) (by omega) (by omega)).2.2, (c _ (by omega) (by omega) (by omega)).2.2⟩, XBz_s hz (fun p hp => (c _ (by omega) (by omega) (by omega)).1) hr.2 (fun p hp => (c _ (by omega) (by omega) (by omega)).2.1), h0, ⟨c1, c2, ⟨cA, XLa_k hA k (by omega) (by omega)⟩, cD, XLa_k hD k (by omega) (by omega)⟩, ⟨by rw [eK]; exact k1, fun j hj => ?_⟩, ⟨by rw [eR]; exact r1, fun j hj => ?_⟩, g⟩
  · rw [eK] at hj ⊢
    obtain ⟨d1, d2, d3, d4⟩ := k2 j hj
    have e3 := (k.2.2 _ d1.1.2 (nE _ d2.2)).2.2
    have e4 := (k.2.2 _ d1.2.2.2.1.2.2 (nE _ d3.2)).2.2
    exact ⟨XKi_k d1 k (nE _ d2.2) (nE _ d3.2) (nE _ d4.2), d2, by rw [e3]; exact d3, by rw [e3, e4]; exact d4⟩
  · rw [eR] at hj ⊢
    obtain ⟨d1, d2⟩ := r2 j hj
    exact ⟨XRu_k d1 k (nE _ d2.2) (fun i hi => ⟨by have := hi.1; omega, nE i hi.2⟩) (fun i hi => hi), d2⟩
end
