/-! X: a Border is made -/
section
variable {Q : Option Value → xw → Prop} {w : xw}
/-- one more cell, and where it hangs -/
def St1 (W W' : xw) (sh : Nat × Nat) (c b k : Nat) : Prop := xN W' = xN W + 1 ∧ xS W' (xN W) = sh ∧ (∀ j, xI W' (xN W) j = 0) ∧ (xR W' b k = xN W ∧ ∀ j, j ≠ k → xR W' b j = xR W b j) ∧ xk (fun i => i = b) W W' ∧ (xI W' b = xI W b ∧ xL W' b = xL W b) ∧ xB W' = ((xB W).1 - 1, (xB W).2 - c)
theorem st1 (W : xw) (sh : Nat × Nat) (c b k : Nat) (hb : b < xN W) : St1 W (xUpR (xNew1 W sh c) b k (xN W)) sh c b k := by
  refine ⟨rfl, n1_S0 (w := W) (c := c), fun j => n1_I0 (w := W) (sh := sh) (c := c), ⟨if_pos ⟨rfl, rfl⟩, fun j hj => ?_⟩, xk_uR (E := fun i => i = b) (xk_n1 (xk_refl _ W) _ _) (Or.inl rfl), ⟨n1_I (sh := sh) (c := c) (by omega), n1_L (sh := sh) (c := c) (by omega)⟩, rfl⟩
  show (if b = b ∧ j = k then xN W else xR (xNew1 W sh c) b j) = _
  rw [if_neg (by omega), n1_R (by omega)]
def StM (W W' : xw) (ko ki b k : Nat) : Prop := xN W' = xN W + 37 ∧ xS W' (xN W) = (ko, 36) ∧ (∀ p, p < 36 → xS W' (xN W + 1 + p) = (ki, 36) ∧ xR W' (xN W) p = xN W + 1 + p ∧ ∀ q, xI W' (xN W + 1 + p) q = 0 ∧ xL W' (xN W + 1 + p) q = 0) ∧ (xR W' b k = xN W ∧ ∀ j, j ≠ k → xR W' b j = xR W b j) ∧ xk (fun i => i = b) W W' ∧ (xI W' b = xI W b ∧ xL W' b = xL W b) ∧ xB W' = ((xB W).1 - 37, (xB W).2 - 1332)
theorem stM (W : xw) (ko ki b k : Nat) (hb : b < xN W) : StM W (xUpR (xNewM W ko ki 36 36) b k (xN W)) ko ki b k := by
  have w1 : W.1 = xN W := rfl
  have eS : ∀ i, xS (xNewM W ko ki 36 36) i = if i = xN W then (ko, 36) else if xN W < i ∧ i ≤ xN W + 36 then (ki, 36) else xS W i := fun _ => rfl
  have eI : ∀ i j, xI (xNewM W ko ki 36 36) i j = if xN W ≤ i ∧ i ≤ xN W + 36 then 0 else xI W i j := fun _ _ => rfl
  have eL : ∀ i j, xL (xNewM W ko ki 36 36) i j = if xN W ≤ i ∧ i ≤ xN W + 36 then 0 else xL W i j := fun _ _ => rfl
  have eR : ∀ i j, xR (xNewM W ko ki 36 36) i j = if i = xN W then xN W + 1 + j else if xN W < i ∧ i ≤ xN W + 36 then 0 else xR W i j := fun _ _ => rfl
  have kM : xk (fun i => i = b) W (xNewM W ko ki 36 36) := by
    refine ⟨by show xN W ≤ xN W + 1 + 36; omega, fun i hi => by rw [eS, if_neg (by omega), if_neg (by omega)], fun i hi _ => ⟨?_, ?_, ?_⟩⟩
    · funext j; rw [eI, if_neg (by omega)]
    · funext j; rw [eL, if_neg (by omega)]
    · funext j; rw [eR, if_neg (by omega), if_neg (by omega)]
  refine ⟨rfl, by show xS (xNewM W ko ki 36 36) (xN W) = _; rw [eS, if_pos rfl], fun p hp => ⟨?_, ?_, fun q => ⟨?_, ?_⟩⟩, ⟨if_pos ⟨rfl, rfl⟩, fun j hj => ?_⟩, xk_uR (E := fun i => i = b) kM (Or.inl rfl), ⟨?_, ?_⟩, rfl⟩
  · show xS (xNewM W ko ki 36 36) (xN W + 1 + p) = _
    rw [eS, if_neg (by omega), if_pos (by omega)]
  · show (if xN W = b ∧ p = k then xN W else xR (xNewM W ko ki 36 36) (xN W) p) = _
    rw [if_neg (by omega), eR, if_pos rfl]
  · show xI (xNewM W ko ki 36 36) (xN W + 1 + p) q = 0
    rw [eI, if_pos (by omega)]
  · show xL (xNewM W ko ki 36 36) (xN W + 1 + p) q = 0
    rw [eL, if_pos (by omega)]
  · show (if b = b ∧ j = k then xN W else xR (xNewM W ko ki 36 36) b j) = _
    rw [if_neg (by omega), eR, if_neg (by omega), if_neg (by omega)]
  · funext j; show xI (xNewM W ko ki 36 36) b j = _; rw [eI, if_neg (by omega)]
  · funext j; show xL (xNewM W ko ki 36 36) b j = _; rw [eL, if_neg (by omega)]
/-- a new Border -/
def XBg (b : Nat) (w : xw) : Prop := ((xS w b).1 = 2 ∧ 256 ≤ b ∧ b + 83 ≤ xN w) ∧ (xR w b 4 = b + 1 ∧ xR w b 5 = b + 3 ∧ xR w b 6 = b + 5 ∧ xR w b 7 = b + 6 ∧ xR w b 8 = b + 7 ∧ xR w b 9 = b + 8 ∧ xR w b 10 = b + 9 ∧ xR w b 11 = b + 46) ∧ (∀ j, j < 4 → xS w (b + 5 + j) = (51, 36)) ∧
  (xS w (b + 9) = (58, 36) ∧ ∀ p, p < 36 → xR w (b + 9) p = b + 10 + p ∧ xS w (b + 10 + p) = (51, 36)) ∧ (xS w (b + 46) = (59, 36) ∧ ∀ p, p < 36 → xR w (b + 46) p = b + 47 + p ∧ xS w (b + 47 + p) = (52, 36)) ∧ XBz b w ∧
  (XLa [] (b + 1) (b + 2) 2 w ∧ XLa [] (b + 3) (b + 4) 2 w) ∧ (∀ j, xI w b j = 0) ∧ ∀ p, p < 36 → xI w (b + 5) p = -1 ∧ xI w (b + 7) p = -1
set_option maxHeartbeats 1000000 in
theorem x_bi86 {b : Nat} {W6 W : xw} (hc : 256 ≤ b) (NW : xN W = b + 5) (N6 : xN W6 = b + 83) (S6 : (xS W6 b).1 = 2) (r4 : xR W6 b 4 = b + 1) (r5 : xR W6 b 5 = b + 3) (r6 : xR W6 b 6 = b + 5) (r7 : xR W6 b 7 = b + 6) (r8 : xR W6 b 8 = b + 7) (r9 : xR W6 b 9 = b + 8) (r10 : xR W6 b 10 = b + 9) (r11 : xR W6 b 11 = b + 46) (s5 : xS W6 (b + 5) = (51, 36)) (s6 : xS W6 (b + 6) = (51, 36)) (s7 : xS W6 (b + 7) = (51, 36)) (s8 : xS W6 (b + 8) = (51, 36)) (s9 : xS W6 (b + 9) = (58, 36)) (s46 : xS W6 (b + 46) = (59, 36))
    (m5 : ∀ p, p < 36 → (xR W6 (b + 9) p = b + 10 + p ∧ xS W6 (b + 10 + p) = (51, 36)) ∧ ∀ q, xI W6 (b + 10 + p) q = 0) (m6 : ∀ p, p < 36 → (xR W6 (b + 46) p = b + 47 + p ∧ xS W6 (b + 47 + p) = (52, 36)) ∧ ∀ q, xL W6 (b + 47 + p) q = 0) (iB : ∀ j, xI W6 b j = 0) (lB : xL W6 b 12 = 0) (L1 : XLa [] (b + 1) (b + 2) 2 W6) (L2 : XLa [] (b + 3) (b + 4) 2 W6) (kW6 : xk (fun i => i = b) W W6)
    (q : ∀ w', XBg b w' → xk (fun i => i = b) W w' → xN w' = b + 83 → Q none w') : T_X1_init Q 86 [some (.ref b), some (.int (nI 0))] [] W6 := by
  refine upTo 36 (fun k (w' : xw) => (xN w' = xN W6 ∧ xS w' = xS W6 ∧ xL w' = xL W6 ∧ xR w' = xR W6 ∧ ∀ i, i ≠ b + 5 → i ≠ b + 7 → xI w' i = xI W6 i) ∧ ∀ p, p < k → xI w' (b + 5) p = -1 ∧ xI w' (b + 7) p = -1) (fun k w' => T_X1_init Q 86 [some (.ref b), some (.int (nI k))] [] w') ?_ ?_ 0 W6 (by omega) ⟨⟨rfl, rfl, rfl, rfl, fun _ _ _ => rfl⟩, fun p hp => by omega⟩
  · intro w' hI
    obtain ⟨⟨n', s', l', r', i'⟩, h'⟩ := hI
    have kE : xk (fun i => i = b + 5 ∨ i = b + 7) W6 w' := ⟨by omega, fun i _ => by rw [s'], fun i _ hne => ⟨i' i (by omega) (by omega), by rw [l'], by rw [r']⟩⟩
    refine r_X1_init_86 ⟨fun _ => ⟨rfl, q w' ?_ ?_ (by omega)⟩, fun z => absurd (by decide) z⟩
    · refine ⟨⟨by rw [s']; exact S6, hc, by omega⟩, by rw [r']; exact ⟨r4, r5, r6, r7, r8, r9, r10, r11⟩, fun j hj => ?_, ⟨by rw [s']; exact s9, fun p hp => by rw [r', s']; exact (m5 p hp).1⟩, ⟨by rw [s']; exact s46, fun p hp => by rw [r', s']; exact (m6 p hp).1⟩, ⟨by rw [l']; exact lB, fun p q9 hp _ => by rw [i' _ (by omega) (by omega)]; exact (m5 p hp).2 q9, fun p q9 hp _ => by rw [l']; exact (m6 p hp).2 q9⟩, ⟨XLa_k L1 kE (by omega) (by omega), XLa_k L2 kE (by omega) (by omega)⟩, fun j => by rw [i' b (by omega) (by omega)]; exact iB j, fun p hp => h' p hp⟩
      rw [s']
      have : j = 0 ∨ j = 1 ∨ j = 2 ∨ j = 3 := by omega
      rcases this with g | g | g | g <;> subst g
      · exact s5
      · exact s6
      · exact s7
      · exact s8
    · refine ⟨by omega, fun i hi => by rw [s', kW6.2.1 i hi], fun i hi hne => ?_⟩
      obtain ⟨b1, b2, b3⟩ := kW6.2.2 i hi hne
      exact ⟨by rw [i' i (by omega) (by omega), b1], by rw [l', b2], by rw [r', b3]⟩
  · intro k w' hk hI next
    obtain ⟨⟨n', s', l', r', i'⟩, h'⟩ := hI
    have hin : vp_in (nI k) (51, 36).2 := (n_in (a := k) (by omega)).mpr (by show k < 36; omega)
    refine r_X1_init_86 ?_
    simp only [xR_uI, xS_uI, r', s', r6, r8, s5, s7, n_tn (show k < 2147483648 by omega)]
    rw [show ((36 : Int32) ≤ nI k) ↔ 36 ≤ k from n_le (a := 36) (by omega) (by omega), show nI k + 1 = nI (k + 1) from n_add k 1]
    refine ⟨fun z => by omega, fun _ => ⟨S6, by omega, by trivial, by omega, hin, S6, by omega, by trivial, by omega, hin, next _ ⟨⟨n', s', l', r', fun i h5 h7 => ?_⟩, fun p hp => ⟨?_, ?_⟩⟩⟩⟩
    · rw [(xUpI_ne _ (b + 7) k (-1) i h7).1, (xUpI_ne _ (b + 5) k (-1) i h5).1]; exact i' i h5 h7
    · rw [x_uI, if_neg (by omega), x_uI]
      by_cases e : p = k
      · rw [if_pos ⟨rfl, e⟩]
      · rw [if_neg (by omega)]; exact (h' p (by omega)).1
    · rw [x_uI]
      by_cases e : p = k
      · rw [if_pos ⟨rfl, e⟩]
      · rw [if_neg (by omega), x_uI, if_neg (by omega)]; exact (h' p (by omega)).2
set_option maxHeartbeats 8000000 in
theorem x_bi25 {b : Nat} {W : xw} (NW : xN W = b + 5) (SW : (xS W b).1 = 2) (hc : 256 ≤ b) (hz : ∀ j, xI W b j = 0) (hzl : xL W b 12 = 0) (RW : xR W b 4 = b + 1) (L1W : XLa [] (b + 1) (b + 2) 2 W) (L2W : XLa [] (b + 3) (b + 4) 2 W) (hb : 78 ≤ (xB W).1 ∧ 2850 ≤ (xB W).2) (q : ∀ w', XBg b w' → xk (fun i => i = b) W w' → xN w' = b + 83 → Q none w') {o1 : Option Value} : T_X1_init Q 25 [some (.ref b), o1] [.ref (b + 3), .ref b] W := by
  have t36 : Int32.toNatClampNeg 36 = 36 := by decide
  refine r_X1_init_25 ?_
  rw [t36]
  have A0 : xk (fun i => i = b) W (xUpR W b 5 (b + 3)) := xk_uR (E := fun i => i = b) (xk_refl _ W) (Or.inl rfl)
  have N0 : xN (xUpR W b 5 (b + 3)) = b + 5 := NW
  have B0 : xB (xUpR W b 5 (b + 3)) = xB W := rfl
  have R0 : xR (xUpR W b 5 (b + 3)) b 4 = b + 1 ∧ xR (xUpR W b 5 (b + 3)) b 5 = b + 3 := by
    refine ⟨?_, if_pos ⟨rfl, rfl⟩⟩
    rw [x_uRR, if_neg (by omega)]; exact RW
  have I0 : xI (xUpR W b 5 (b + 3)) b = xI W b ∧ xL (xUpR W b 5 (b + 3)) b = xL W b := ⟨rfl, rfl⟩
  generalize xUpR W b 5 (b + 3) = W0 at *
  have P1 := st1 W0 (51, 36) 36 b 6 (by omega)
  generalize xUpR (xNew1 W0 (51, 36) 36) b 6 (xN W0) = W1 at P1 ⊢
  have P2 := st1 W1 (51, 36) 36 b 7 (by have := P1.1; omega)
  generalize xUpR (xNew1 W1 (51, 36) 36) b 7 (xN W1) = W2 at P2 ⊢
  have P3 := st1 W2 (51, 36) 36 b 8 (by have := P1.1; have := P2.1; omega)
  generalize xUpR (xNew1 W2 (51, 36) 36) b 8 (xN W2) = W3 at P3 ⊢
  have P4 := st1 W3 (51, 36) 36 b 9 (by have := P1.1; have := P2.1; have := P3.1; omega)
  generalize xUpR (xNew1 W3 (51, 36) 36) b 9 (xN W3) = W4 at P4 ⊢
  have P5 := stM W4 58 51 b 10 (by have := P1.1; have := P2.1; have := P3.1; have := P4.1; omega)
  generalize xUpR (xNewM W4 58 51 36 36) b 10 (xN W4) = W5 at P5 ⊢
  have P6 := stM W5 59 52 b 11 (by have := P1.1; have := P2.1; have := P3.1; have := P4.1; have := P5.1; omega)
  generalize xUpR (xNewM W5 59 52 36 36) b 11 (xN W5) = W6 at P6 ⊢
  have N1 : xN W1 = b + 6 := by have := P1.1; omega
  have N2 : xN W2 = b + 7 := by have := P2.1; omega
  have N3 : xN W3 = b + 8 := by have := P3.1; omega
  have N4 : xN W4 = b + 9 := by have := P4.1; omega
  have N5 : xN W5 = b + 46 := by have := P5.1; omega
  have N6 : xN W6 = b + 83 := by have := P6.1; omega
  have E1 : (xB W1).1 = (xB W0).1 - 1 ∧ (xB W1).2 = (xB W0).2 - 36 := by rw [P1.2.2.2.2.2.2]; exact ⟨rfl, rfl⟩
  have E2 : (xB W2).1 = (xB W1).1 - 1 ∧ (xB W2).2 = (xB W1).2 - 36 := by rw [P2.2.2.2.2.2.2]; exact ⟨rfl, rfl⟩
  have E3 : (xB W3).1 = (xB W2).1 - 1 ∧ (xB W3).2 = (xB W2).2 - 36 := by rw [P3.2.2.2.2.2.2]; exact ⟨rfl, rfl⟩
  have E4 : (xB W4).1 = (xB W3).1 - 1 ∧ (xB W4).2 = (xB W3).2 - 36 := by rw [P4.2.2.2.2.2.2]; exact ⟨rfl, rfl⟩
  have E5 : (xB W5).1 = (xB W4).1 - 37 ∧ (xB W5).2 = (xB W4).2 - 1332 := by rw [P5.2.2.2.2.2.2]; exact ⟨rfl, rfl⟩
  rw [← B0] at hb
  have k1 := P1.2.2.2.2.1
  have k2 := P2.2.2.2.2.1
  have k3 := P3.2.2.2.2.1
  have k4 := P4.2.2.2.2.1
  have k5 := P5.2.2.2.2.1
  have k6 := P6.2.2.2.2.1
  have S0 : (xS W0 b).1 = 2 := by rw [A0.2.1 b (by omega)]; exact SW
  have S1 : (xS W1 b).1 = 2 := by rw [k1.2.1 b (by omega)]; exact S0
  have S2 : (xS W2 b).1 = 2 := by rw [k2.2.1 b (by omega)]; exact S1
  have S3 : (xS W3 b).1 = 2 := by rw [k3.2.1 b (by omega)]; exact S2
  have S4 : (xS W4 b).1 = 2 := by rw [k4.2.1 b (by omega)]; exact S3
  have S5 : (xS W5 b).1 = 2 := by rw [k5.2.1 b (by omega)]; exact S4
  have S6 : (xS W6 b).1 = 2 := by rw [k6.2.1 b (by omega)]; exact S5
  have cN : ∀ W : xw, b < xN W → (xS W b).1 = 2 → (xS (xNew1 W (51, 36) 36) b).1 = 2 := fun W h1 h2 => by rw [n1_S (by omega)]; exact h2
  have cM : ∀ (W : xw) ko ki, b < xN W → (xS W b).1 = 2 → (xS (xNewM W ko ki 36 36) b).1 = 2 := fun W ko ki h1 h2 => by
    show (if b = xN W then (ko, 36) else if xN W < b ∧ b ≤ xN W + 36 then (ki, 36) else xS W b).1 = 2
    rw [if_neg (by omega), if_neg (by omega)]; exact h2
  have n0 : ¬ ((36 : Int32) < 0) := by decide
  have r6 : xR W6 b 6 = b + 5 := by
    rw [P6.2.2.2.1.2 6 (by omega), P5.2.2.2.1.2 6 (by omega), P4.2.2.2.1.2 6 (by omega), P3.2.2.2.1.2 6 (by omega), P2.2.2.2.1.2 6 (by omega), P1.2.2.2.1.1]; exact N0
  have r7 : xR W6 b 7 = b + 6 := by
    rw [P6.2.2.2.1.2 7 (by omega), P5.2.2.2.1.2 7 (by omega), P4.2.2.2.1.2 7 (by omega), P3.2.2.2.1.2 7 (by omega), P2.2.2.2.1.1]; exact N1
  have r8 : xR W6 b 8 = b + 7 := by
    rw [P6.2.2.2.1.2 8 (by omega), P5.2.2.2.1.2 8 (by omega), P4.2.2.2.1.2 8 (by omega), P3.2.2.2.1.1]; exact N2
  have r9 : xR W6 b 9 = b + 8 := by
    rw [P6.2.2.2.1.2 9 (by omega), P5.2.2.2.1.2 9 (by omega), P4.2.2.2.1.1]; exact N3
  have r10 : xR W6 b 10 = b + 9 := by
    rw [P6.2.2.2.1.2 10 (by omega), P5.2.2.2.1.1]; exact N4
  have r11 : xR W6 b 11 = b + 46 := by rw [P6.2.2.2.1.1]; exact N5
  have r4 : xR W6 b 4 = b + 1 := by
    rw [P6.2.2.2.1.2 4 (by omega), P5.2.2.2.1.2 4 (by omega), P4.2.2.2.1.2 4 (by omega), P3.2.2.2.1.2 4 (by omega), P2.2.2.2.1.2 4 (by omega), P1.2.2.2.1.2 4 (by omega)]; exact R0.1
  have r5 : xR W6 b 5 = b + 3 := by
    rw [P6.2.2.2.1.2 5 (by omega), P5.2.2.2.1.2 5 (by omega), P4.2.2.2.1.2 5 (by omega), P3.2.2.2.1.2 5 (by omega), P2.2.2.2.1.2 5 (by omega), P1.2.2.2.1.2 5 (by omega)]; exact R0.2
  have k56 := k6
  have k46 := xk_trans k5 k6
  have k36 := xk_trans k4 k46
  have k26 := xk_trans k3 k36
  have k16 := xk_trans k2 k26
  have k06 := xk_trans k1 k16
  have kW6 := xk_trans A0 k06
  have s5 : xS W6 (b + 5) = (51, 36) := by
    rw [k16.2.1 (b + 5) (by omega)]
    have := P1.2.1; rw [N0] at this; exact this
  have s6 : xS W6 (b + 6) = (51, 36) := by
    rw [k26.2.1 (b + 6) (by omega)]
    have := P2.2.1; rw [N1] at this; exact this
  have s7 : xS W6 (b + 7) = (51, 36) := by
    rw [k36.2.1 (b + 7) (by omega)]
    have := P3.2.1; rw [N2] at this; exact this
  have s8 : xS W6 (b + 8) = (51, 36) := by
    rw [k46.2.1 (b + 8) (by omega)]
    have := P4.2.1; rw [N3] at this; exact this
  have s9 : xS W6 (b + 9) = (58, 36) := by
    rw [k56.2.1 (b + 9) (by omega)]
    have := P5.2.1; rw [N4] at this; exact this
  have s46 : xS W6 (b + 46) = (59, 36) := by
    have := P6.2.1; rw [N5] at this; exact this
  have m5 : ∀ p, p < 36 → (xR W6 (b + 9) p = b + 10 + p ∧ xS W6 (b + 10 + p) = (51, 36)) ∧ ∀ q, xI W6 (b + 10 + p) q = 0 := fun p hp => by
    have h := P5.2.2.1 p hp
    rw [N4, show b + 9 + 1 + p = b + 10 + p by omega] at h
    obtain ⟨g1, g2, g3⟩ := k56.2.2 (b + 9) (by omega) (by omega)
    obtain ⟨g4, g5, g6⟩ := k56.2.2 (b + 10 + p) (by omega) (by omega)
    exact ⟨⟨by rw [g3]; exact h.2.1, by rw [k56.2.1 _ (by omega)]; exact h.1⟩, fun q => by rw [g4]; exact (h.2.2 q).1⟩
  have m6 : ∀ p, p < 36 → (xR W6 (b + 46) p = b + 47 + p ∧ xS W6 (b + 47 + p) = (52, 36)) ∧ ∀ q, xL W6 (b + 47 + p) q = 0 := fun p hp => by
    have h := P6.2.2.1 p hp
    rw [N5, show b + 46 + 1 + p = b + 47 + p by omega] at h
    exact ⟨⟨h.2.1, h.1⟩, fun q => (h.2.2 q).2⟩
  have iB : ∀ j, xI W6 b j = 0 := fun j => by
    rw [P6.2.2.2.2.2.1.1, P5.2.2.2.2.2.1.1, P4.2.2.2.2.2.1.1, P3.2.2.2.2.2.1.1, P2.2.2.2.2.2.1.1, P1.2.2.2.2.2.1.1, I0.1]; exact hz j
  have lB : xL W6 b 12 = 0 := by
    rw [P6.2.2.2.2.2.1.2, P5.2.2.2.2.2.1.2, P4.2.2.2.2.2.1.2, P3.2.2.2.2.2.1.2, P2.2.2.2.2.2.1.2, P1.2.2.2.2.2.1.2, I0.2]; exact hzl
  have L1 : XLa [] (b + 1) (b + 2) 2 W6 := XLa_k L1W kW6 (by omega) (by omega)
  have L2 : XLa [] (b + 3) (b + 4) 2 W6 := XLa_k L2W kW6 (by omega) (by omega)
  have L86 := x_bi86 hc NW N6 S6 r4 r5 r6 r7 r8 r9 r10 r11 s5 s6 s7 s8 s9 s46 m5 m6 iB lB L1 L2 kW6 q
  clear L1 L2 kW6 m5 m6 iB lB r4 r5 r6 r7 r8 r9 r10 r11 s5 s6 s7 s8 s9 s46 k06 k16 k26 k36 k46 k56 k1 k2 k3 k4 k5 k6 P1 P2 P3 P4 P5 P6 A0 R0 I0 L1W L2W hz hzl q RW
  have u0 : 1 ≤ (xB W0).1 ∧ 36 ≤ (xB W0).2 := by omega
  have u1 : 1 ≤ (xB W1).1 ∧ 36 ≤ (xB W1).2 := by omega
  have u2 : 1 ≤ (xB W2).1 ∧ 36 ≤ (xB W2).2 := by omega
  have u3 : 1 ≤ (xB W3).1 ∧ 36 ≤ (xB W3).2 := by omega
  have u4 : 1 + 36 ≤ (xB W4).1 ∧ 36 + 36 * 36 ≤ (xB W4).2 := by omega
  have u5 : 1 + 36 ≤ (xB W5).1 ∧ 36 + 36 * 36 ≤ (xB W5).2 := by omega
  have z : ¬ b + 3 = 0 ∧ ¬ xN W0 = 0 ∧ ¬ xN W1 = 0 ∧ ¬ xN W2 = 0 ∧ ¬ xN W3 = 0 ∧ ¬ xN W4 = 0 ∧ ¬ xN W5 = 0 := by omega
  have d1 := cN W0 (by omega) S0
  have d2 := cN W1 (by omega) S1
  have d3 := cN W2 (by omega) S2
  have d4 := cN W3 (by omega) S3
  have d5 := cM W4 58 51 (by omega) S4
  have d6 := cM W5 59 52 (by omega) S5
  have e6 : (36 : Nat) ≤ 60000000 ∧ (36 : Nat) ≤ 60000 := by decide
  exact ⟨SW, hc, z.1, ⟨n0, u0.1, u0.2, e6.1⟩, d1, hc, z.2.1, ⟨n0, u1.1, u1.2, e6.1⟩, d2, hc, z.2.2.1, ⟨n0, u2.1, u2.2, e6.1⟩, d3, hc, z.2.2.2.1, ⟨n0, u3.1, u3.2, e6.1⟩, d4, hc, z.2.2.2.2.1, ⟨n0, n0, u4.1, u4.2, e6.2, e6.2⟩, d5, hc, z.2.2.2.2.2.1, ⟨n0, n0, u5.1, u5.2, e6.2, e6.2⟩, d6, hc, z.2.2.2.2.2.2, L86⟩
set_option maxHeartbeats 2000000 in
theorem x_binit {b : Nat} (hn : xN w = b + 1) (hs : (xS w b).1 = 2) (hc : 256 ≤ b) (hz : ∀ j, xI w b j = 0) (hzl : xL w b 12 = 0) (hb : 82 ≤ (xB w).1 ∧ 2900 ≤ (xB w).2) (q : ∀ w', XBg b w' → xk (fun i => i = b) w w' → xN w' = b + 83 → Q none w') : V_X1_init [.ref b] w Q := by
  have n16 : xNf 16 ≤ 6 := by decide
  have t36 : Int32.toNatClampNeg 36 = 36 := by decide
  refine e_X1_init (r_X1_init_0 ⟨Nat.le_of_ble_eq_true rfl, r_X1_init_4 ⟨⟨by omega, by omega⟩, 1, 2, ⟨by show 1 ≤ (xB w).1 - 1; omega, by show 2 ≤ (xB w).2 - xNf 16; omega⟩, ?_⟩⟩)
  have f1 : xk (fun i => i = b) w (xNew1 w (17, 0) (xNf 16)) := xk_n1 (xk_refl _ w) _ _
  have s1 : xS (xNew1 w (17, 0) (xNf 16)) (xN w) = (17, 0) := n1_S0
  refine ⟨by show (xS (xNew1 w (17, 0) (xNf 16)) (xN w)).1 = 17; rw [s1], x_alist (w := xSetB (xNew1 w (17, 0) (xNf 16)) (1, 2)) (l := xN w) (by show (xS (xNew1 w (17, 0) (xNf 16)) (xN w)).1 = 17; rw [s1]) ⟨by omega, by show xN w < xN w + 1; omega⟩ ⟨Nat.le_refl _, Nat.le_refl _⟩ (n1_I0 (w := w) (sh := (17, 0)) (c := xNf 16)) (fun w2 L2 k2 n2 => r_X1_init_13 ?_)⟩
  have k2 : xk (fun i => i = xN w) (xNew1 w (17, 0) (xNf 16)) w2 := k2
  have L2 : XLa [] (xN w) (xN w + 1) 2 w2 := L2
  have n2 : xN w2 = xN w + 2 := n2
  have k12 : xk (fun i => i = b) w w2 := ⟨by omega, fun i hi => (k2.2.1 i (by show i < xN w + 1; omega)).trans (f1.2.1 i hi), fun i hi hne => by
    obtain ⟨a1, a2, a3⟩ := f1.2.2 i hi hne
    obtain ⟨b1, b2, b3⟩ := k2.2.2 i (by show i < xN w + 1; omega) (by omega)
    exact ⟨b1.trans a1, b2.trans a2, b3.trans a3⟩⟩
  have bI2 : xI w2 b = xI w b ∧ xL w2 b = xL w b := by
    obtain ⟨c1, c2, c3⟩ := k2.2.2 b (by show b < xN w + 1; omega) (by omega)
    exact ⟨c1.trans (n1_I (by omega)), c2.trans (n1_L (by omega))⟩
  have sc : (xS w2 b).1 = 2 := by rw [k12.2.1 b (by omega)]; exact hs
  have P3 : St1 (xUpR w2 b 4 (xN w)) (xUpR (xNew1 (xUpR w2 b 4 (xN w)) (17, 0) (xNf 16)) b 5 (xN w2)) (17, 0) (xNf 16) b 5 := st1 (xUpR w2 b 4 (xN w)) (17, 0) (xNf 16) b 5 (by show b < xN w2; omega)
  have s3 : xS (xNew1 (xUpR w2 b 4 (xN w)) (17, 0) (xNf 16)) (xN w2) = (17, 0) := n1_S0 (w := xUpR w2 b 4 (xN w))
  have f3 : xk (fun i => i = b) w2 (xNew1 (xUpR w2 b 4 (xN w)) (17, 0) (xNf 16)) := xk_n1 (xk_uR (E := fun i => i = b) (w1 := w2) (xk_refl _ w2) (Or.inl rfl)) _ _
  refine ⟨sc, hc, by show ¬ xN w = 0; omega, ⟨by show 1 ≤ (xB w).1 - 1 - 1; omega, by show xNf 16 ≤ (xB w).2 - xNf 16 - 2; omega⟩, 1, 2, ⟨by show 1 ≤ (xB w).1 - 1 - 1 - 1; omega, by show 2 ≤ (xB w).2 - xNf 16 - 2 - xNf 16; omega⟩, by show (xS (xNew1 (xUpR w2 b 4 (xN w)) (17, 0) (xNf 16)) (xN w2)).1 = 17; rw [s3], ?_⟩
  refine x_alist (w := xSetB (xNew1 (xUpR (xSetB w2 _) b 4 (xN w)) (17, 0) (xNf 16)) (1, 2)) (l := xN w2) (by show (xS (xNew1 (xUpR w2 b 4 (xN w)) (17, 0) (xNf 16)) (xN w2)).1 = 17; rw [s3]) ⟨by omega, by show xN w2 < xN w2 + 1; omega⟩ ⟨Nat.le_refl _, Nat.le_refl _⟩ (n1_I0 (w := xUpR w2 b 4 (xN w)) (sh := (17, 0)) (c := xNf 16)) (fun w4 L4 k4 n4 => ?_)
  have k4 : xk (fun i => i = xN w2) (xNew1 (xUpR w2 b 4 (xN w)) (17, 0) (xNf 16)) w4 := k4
  have L4 : XLa [] (xN w2) (xN w2 + 1) 2 w4 := L4
  have n4 : xN w4 = xN w2 + 2 := n4
  have k24 : xk (fun i => i = b) w2 w4 := ⟨by omega, fun i hi => (k4.2.1 i (by show i < xN w2 + 1; omega)).trans (f3.2.1 i hi), fun i hi hne => by
    obtain ⟨a1, a2, a3⟩ := f3.2.2 i hi hne
    obtain ⟨b1, b2, b3⟩ := k4.2.2 i (by show i < xN w2 + 1; omega) (by omega)
    exact ⟨b1.trans a1, b2.trans a2, b3.trans a3⟩⟩
  obtain ⟨c41, c42, c43⟩ := k4.2.2 b (by show b < xN w2 + 1; omega) (by omega)
  have r44 : xR w4 b 4 = b + 1 := by
    rw [c43, n1_R (by show b ≠ xN w2; omega)]
    show (if b = b ∧ 4 = 4 then xN w else _) = _
    rw [if_pos ⟨rfl, rfl⟩]; exact hn
  have bI4 : xI w4 b = xI w b ∧ xL w4 b = xL w b := ⟨c41.trans ((n1_I (by show b ≠ xN w2; omega)).trans bI2.1), c42.trans ((n1_L (by show b ≠ xN w2; omega)).trans bI2.2)⟩
  have sc4 : (xS w4 b).1 = 2 := by rw [k24.2.1 b (by omega)]; exact sc
  have L2' : XLa [] (b + 1) (b + 2) 2 w4 := by
    rw [hn] at L2
    exact XLa_k L2 k24 (by omega) (by omega)
  have L4' : XLa [] (b + 3) (b + 4) 2 w4 := by
    rw [show xN w2 = b + 3 by omega] at L4; exact L4
  have nb4 : xN w4 = b + 5 := by omega
  -- the arrays
  obtain ⟨W, hW⟩ : ∃ W, W = xSetB w4 ((xB (xNew1 (xUpR (xSetB w2 ((xB (xNew1 w (17, 0) (xNf 16))).1 - 1, (xB (xNew1 w (17, 0) (xNf 16))).2 - 2)) b 4 (xN w)) (17, 0) (xNf 16))).1 - 1, (xB (xNew1 (xUpR (xSetB w2 ((xB (xNew1 w (17, 0) (xNf 16))).1 - 1, (xB (xNew1 w (17, 0) (xNf 16))).2 - 2)) b 4 (xN w)) (17, 0) (xNf 16))).2 - 2) := ⟨_, rfl⟩
  rw [← hW]
  have BW : xB W = ((xB w).1 - 1 - 1 - 1 - 1, (xB w).2 - xNf 16 - 2 - xNf 16 - 2) := by rw [hW]; rfl
  have NW : xN W = b + 5 := by rw [hW]; exact nb4
  have SW : (xS W b).1 = 2 := by rw [hW]; exact sc4
  have kW : xk (fun i => i = b) w W := by rw [hW]; exact xk_sB (xk_trans k12 k24) _
  have IW : xI W b = xI w b ∧ xL W b = xL w b := by rw [hW]; exact bI4
  have RW : xR W b 4 = b + 1 := by rw [hW]; exact r44
  have L1W : XLa [] (b + 1) (b + 2) 2 W := by rw [hW]; exact L2'
  have L2W : XLa [] (b + 3) (b + 4) 2 W := by rw [hW]; exact L4'
  clear hW
  have n2b : xN w2 = b + 3 := by omega
  have exN : xN (xUpR (xSetB w2 ((xB (xNew1 w (17, 0) (xNf 16))).1 - 1, (xB (xNew1 w (17, 0) (xNf 16))).2 - 2)) b 4 (xN w)) = b + 3 := n2b
  rw [exN]
  refine x_bi25 (Q := Q) (W := W) (b := b) NW SW hc (fun j => by rw [IW.1]; exact hz j) (by rw [IW.2]; exact hzl) RW L1W L2W ⟨by rw [BW]; show 78 ≤ (xB w).1 - 1 - 1 - 1 - 1; omega, by rw [BW]; show 2850 ≤ (xB w).2 - xNf 16 - 2 - xNf 16 - 2; omega⟩ (fun w' g' k' n' => q w' g' ?_ n')
  · refine ⟨by have := kW.1; have := k'.1; omega, fun i hi => by rw [k'.2.1 i (by omega)]; exact kW.2.1 i hi, fun i hi hne => ?_⟩
    obtain ⟨a1, a2, a3⟩ := kW.2.2 i hi hne
    obtain ⟨b1, b2, b3⟩ := k'.2.2 i (by omega) hne
    exact ⟨b1.trans a1, b2.trans a2, b3.trans a3⟩
end
