/-! X: the Reader reads a whole border -/
section
variable {T : List Nat} {Q : Option Value → xw → Prop} {Qx : Nat → xw → Prop} {w : xw}
theorem XC_k {E : Nat → Prop} {w' : xw} (h : XC w) (k : xk E w w') (hN : 256 ≤ xN w) (hE : ∀ i, E i → 256 ≤ i) : XC w' := by
  obtain ⟨h0, h1, h2, h3, h4⟩ := h
  have s := fun i (hi : i < 256) => k.2.2 i (by omega) (fun z => by have := hE i z; omega)
  have ss := fun i (hi : i < 256) => k.2.1 i (by omega)
  have nn := k.1
  refine ⟨fun q q1 q2 => ⟨?_, ?_⟩, ⟨?_, ?_⟩, ⟨?_, ?_⟩, ⟨?_, ?_⟩, ⟨?_, ?_⟩⟩
  · have hq := h0 q q1 q2
    exact (XStr_k hq.1 k (fun z => by have := hE _ z; omega) (fun z => by have := hE _ z; have := hq.2; omega)).1
  · rw [(s q (by omega)).2.2]; exact (h0 q q1 q2).2
  · rw [ss 1 (by omega)]; exact h1.1
  · rw [(s 1 (by omega)).2.2]; exact h1.2
  · rw [ss 2 (by omega)]; exact h2.1
  · rw [(s 2 (by omega)).2.2]; exact h2.2
  · rw [ss 3 (by omega)]; exact h3.1
  · rw [(s 3 (by omega)).2.2]; exact h3.2
  · rw [ss 4 (by omega)]; exact h4.1
  · rw [(s 4 (by omega)).2.2]; exact h4.2
/-- the new Border tells nothing yet -/
theorem XTo_0 {b : Nat} {w1 w2 : xw} (hb : 794 ≤ b) (g : XBg b w1) (k : xk (fun i => i = 341) w1 w2) (hr : xR w2 341 5 = b) : XTo 0 0 tbZ 0 b w2 := by
  obtain ⟨⟨g1, g2, g3⟩, g4, g5, ⟨g6, g7⟩, ⟨g8, g9⟩, hz, ⟨L1, L2⟩, hi, hp⟩ := g
  have nn := k.1
  have hs1 : XBs b w1 := ⟨⟨g1, hb, g3⟩, g4, g5, ⟨g6, g7⟩, g8, g9⟩
  have c := fun i (h1 : b ≤ i) (h2 : i < b + 83) => k.2.2 i (by omega) (by omega)
  refine ⟨⟨[], [], b + 2, b + 4, b + 83, by omega, XBs_s hs1 k.1 k.2.1 ⟨(c b (by omega) (by omega)).2.2, (c _ (by omega) (by omega)).2.2, (c _ (by omega) (by omega)).2.2⟩, XBz_s hz (fun p hp => (c _ (by omega) (by omega)).1) (c b (by omega) (by omega)).2.1 (fun p hp => (c _ (by omega) (by omega)).2.1), ?_, ⟨⟨Or.inl rfl, by omega⟩, Or.inl rfl, ⟨2, XLa_k L1 k (by omega) (by omega)⟩, 2, XLa_k L2 k (by omega) (by omega)⟩, ⟨rfl, fun j hj => absurd hj (Nat.not_lt_zero _)⟩, ⟨rfl, fun j hj => absurd hj (Nat.not_lt_zero _)⟩, fun p hp9 => ?_⟩, hr⟩
  · rw [(c b (by omega) (by omega)).1]; exact ⟨hi 0, hi 1, hi 2, hi 3⟩
  · rw [(c (b + 5) (by omega) (by omega)).1, (c (b + 7) (by omega) (by omega)).1]
    exact ⟨(hp p hp9).1, fun z => absurd rfl z, (hp p hp9).2⟩
set_option maxHeartbeats 2000000 in
theorem x_readAll {x : Int32} (h : XRp T w) (hC : XC w) (hx : x = nI T.length) (hb : 60 * (T.length + 19) + 83 ≤ (xB w).1 ∧ 5500 * (T.length + 19) + 2920 ≤ (xB w).2)
    (qe : ∀ kd pl, boP T = .inl (kd, pl) → ∀ w', xqa w w' → XBad kd pl w' → (xS w' 342).1 = 4 → Qx 342 w')
    (qo : ∀ wd hg t n, boP T = .inr (wd, hg, t, n) → ∀ w', xqa w w' → XTo wd hg t n (xN w) w' → Q (some (.ref (xN w))) w') : V_X2_all [.ref 341, .int x] w Q Qx := by
  subst hx
  obtain ⟨⟨a1, a2, a3, a4⟩, ⟨b1, b2, b3⟩, c2, c3, c4⟩ := h
  have n1' : xNf 1 ≤ 20 := by decide
  have kn : xk (fun _ => False) w (xNew1 w (2, 0) (xNf 1)) := xk_n1 (xk_refl _ w) _ _
  have s1 : xS (xNew1 w (2, 0) (xNf 1)) (xN w) = (2, 0) := n1_S0
  refine e_X2_all (r_X2_all_0 ⟨⟨by omega, by omega⟩, 82, 2900, ⟨by show 82 ≤ (xB w).1 - 1; omega, by show 2900 ≤ (xB w).2 - xNf 1; omega⟩, by show (xS (xNew1 w (2, 0) (xNf 1)) (xN w)).1 = 2; rw [s1], x_binit (w := xSetB (xNew1 w (2, 0) (xNf 1)) (82, 2900)) (b := xN w) rfl (by show (xS (xNew1 w (2, 0) (xNf 1)) (xN w)).1 = 2; rw [s1]) (by omega) (fun j => n1_I0 (w := w) (sh := (2, 0)) (c := xNf 1)) ?_ ⟨Nat.le_refl _, Nat.le_refl _⟩ (fun w1 g1 k1 n1 => r_X2_all_8 ?_)⟩)
  · show (if xN w = xN w then (0 : Int64) else xL w (xN w) 12) = 0
    rw [if_pos rfl]
  have k1 : xk (fun i => i = xN w) (xNew1 w (2, 0) (xNf 1)) w1 := k1
  have kw1 : xk (fun i => i = xN w) w w1 := xk_trans (xk_wk kn (fun i _ hi => hi.elim)) k1
  obtain ⟨W, hW⟩ : ∃ W, W = xSetB w1 ((xB (xNew1 w (2, 0) (xNf 1))).1 - 82, (xB (xNew1 w (2, 0) (xNf 1))).2 - 2900) := ⟨_, rfl⟩
  rw [← hW]
  have gW : XBg (xN w) W := by rw [hW]; exact g1
  have kW : xk (fun i => i = xN w) w W := by rw [hW]; exact kw1
  have NW : xN W = xN w + 83 := by rw [hW]; exact n1
  have BW : xB W = ((xB w).1 - 1 - 82, (xB w).2 - xNf 1 - 2900) := by rw [hW]; rfl
  clear hW g1 kw1 k1 n1
  have c := fun i (hi : i < xN w) => kW.2.2 i hi (by omega)
  have cs := fun i (hi : i < xN w) => kW.2.1 i hi
  obtain ⟨W2, hW2⟩ : ∃ W2, W2 = xUpI (xUpI (xUpI (xUpR W 341 5 (xN w)) 341 1 (nI T.length)) 341 2 0) 341 4 0 := ⟨_, rfl⟩
  have k2 : xk (fun i => i = 341) W W2 := by rw [hW2]; exact xk_uI (E := fun i => i = 341) (xk_uI (E := fun i => i = 341) (xk_uI (E := fun i => i = 341) (xk_uR (E := fun i => i = 341) (xk_refl _ W) (Or.inl rfl)) (Or.inl rfl)) (Or.inl rfl)) (Or.inl rfl)
  have N2 : xN W2 = xN w + 83 := by rw [hW2]; exact NW
  have B2 : xB W2 = xB W := by rw [hW2]; rfl
  have S2 : xS W2 = xS W := by rw [hW2]; rfl
  have R2 : xR W2 341 5 = xN w := by
    rw [hW2]
    show (if 341 = 341 ∧ 5 = 5 then xN w else xR W 341 5) = _
    rw [if_pos ⟨rfl, rfl⟩]
  have R2' : ∀ i j, ¬ (i = 341 ∧ j = 5) → xR W2 i j = xR W i j := fun i j hij => by
    rw [hW2]
    show (if i = 341 ∧ j = 5 then xN w else xR W i j) = _
    rw [if_neg hij]
  have I2 : xI W2 341 1 = nI T.length ∧ xI W2 341 2 = nI 0 ∧ xI W2 341 4 = nI 0 := by
    rw [hW2]
    refine ⟨?_, ?_, ?_⟩
    · rw [x_uI, if_neg (by omega), x_uI, if_neg (by omega), x_uI, if_pos ⟨rfl, rfl⟩]
    · rw [x_uI, if_neg (by omega), x_uI, if_pos ⟨rfl, rfl⟩]; rfl
    · rw [x_uI, if_pos ⟨rfl, rfl⟩]; rfl
  have I2' : ∀ i j, ¬ (i = 341 ∧ 1 ≤ j ∧ j ≤ 4) → xI W2 i j = xI W i j := fun i j hij => by
    rw [hW2, x_uI, if_neg (by omega), x_uI, if_neg (by omega), x_uI, if_neg (by omega)]; rfl
  have L2 : xL W2 = xL W := by rw [hW2]; rfl
  have zt : XRt T W2 := by
    refine ⟨⟨?_, ?_, ?_, ?_⟩, ⟨?_, ?_, ?_⟩, I2.1, fun k hk => ?_, c3, by omega⟩
    · rw [S2, cs 341 (by omega)]; exact a1
    · rw [S2, cs 342 (by omega)]; exact a2
    · rw [S2, cs 256 (by omega)]; exact a3
    · rw [S2, cs 340 (by omega)]; exact a4
    · rw [R2' 341 0 (by omega), (c 341 (by omega)).2.2]; exact b1
    · rw [R2' 341 6 (by omega), (c 341 (by omega)).2.2]; exact b2
    · rw [R2' 256 1 (by omega), (c 256 (by omega)).2.2]; exact b3
    · rw [I2' 340 k (by omega), (c 340 (by omega)).1]; exact c2 k hk
  have zc : XC W2 := XC_k (XC_k hC kW (by omega) (fun i hi => by omega)) k2 (by omega) (fun i hi => by omega)
  have z2 : XZ T 0 W2 := ⟨⟨zt, I2.2.1, Nat.zero_le _⟩, zc⟩
  have to2 : XTo 0 0 tbZ 0 (xN w) W2 := XTo_0 c4 gW k2 R2
  have fin : ∀ w', xqb (xN w) W2 w' → xqa w w' := fun w' f => by
    obtain ⟨f1, f2, f3, f4⟩ := f
    refine ⟨by omega, fun i hi => ⟨by rw [f2 i (by omega), S2, cs i hi], by rw [(f3 i hi).1, L2, (c i hi).2.1]⟩, fun i j hi hij => by rw [(f3 i hi).2, R2' i j hij, (c i hi).2.2], fun i j hi h1 h2 => ?_⟩
    rw [f4 i j hi (by omega) (by omega), I2' i j (by omega), (c i hi).1]
  have key := x_all2 (T := T) (Q := Q) (Qx := Qx) (w := W2) (w0 := W2) (b := xN w) (by omega) (xqb_refl _ _) z2 to2 I2.2.2 ⟨by rw [B2, BW]; show _ ≤ (xB w).1 - 1 - 82; omega, by rw [B2, BW]; show _ ≤ (xB w).2 - xNf 1 - 2900; omega⟩ (fun kd pl hbo w' f' e' s' => qe kd pl hbo w' (fin w' f') e' s') (fun wd hg t n hbo w' f' t' => qo wd hg t n hbo w' (fin w' f') t') (o1 := some (.int (nI T.length)))
  have s341 : (xS W 341).1 = 3 := by rw [cs 341 (by omega)]; exact a1
  rw [hW2] at key
  exact ⟨s341, by omega, by omega, s341, by omega, s341, by omega, s341, by omega, key⟩
end
