/-! X: chains of values are made -/
section
variable {Q : Option Value → xw → Prop} {w : xw}
theorem x_alist {l : Nat} (hl : (xS w l).1 = 17) (h2 : 256 ≤ l ∧ l < xN w) (hb : 1 ≤ (xB w).1 ∧ 2 ≤ (xB w).2) (hz : xI w l 2 = 0) (q : ∀ w', XLa [] l (xN w) 2 w' → xk (fun i => i = l) w w' → xN w' = xN w + 1 → Q none w') : V_J2_init [.ref l, .int 2] w Q := by
  refine e_J2_init (r_J2_init_0 ⟨0, 0, ⟨Nat.zero_le _, Nat.zero_le _⟩, hl, e_J1_init (r_J1_init_0 ⟨0, 0, ⟨Nat.zero_le _, Nat.zero_le _⟩, hl, e_J0_init (r_J0_init_0 ⟨Nat.le_of_ble_eq_true rfl, r_J0_init_4 ⟨rfl, r_J1_init_4 ⟨hl, h2.1, rfl, r_J2_init_4 ⟨fun z => absurd z (by decide), fun _ => ⟨⟨by decide, hb.1, hb.2, by decide⟩, ?_⟩⟩⟩⟩⟩)⟩)⟩)
  have f0 : xk (fun i => i = l) w (xUpI w l 0 0) := xk_uI (xk_refl _ w) (Or.inl rfl)
  have f1 : xk (fun i => i = l) w (xNew1 (xUpI w l 0 0) (55, 2) 2) := xk_n1 f0 _ _
  have sl : (xS (xNew1 (xUpI w l 0 0) (55, 2) 2) l).1 = 17 := by rw [f1.2.1 l h2.2]; exact hl
  refine ⟨sl, h2.1, by show ¬ xN w = 0; omega, rfl, q _ ?_ (xk_uR (w1 := xNew1 (xUpI w l 0 0) (55, 2) 2) f1 (Or.inl rfl)) rfl⟩
  refine ⟨⟨sl, h2.1, by show l < xN w + 1; omega⟩, ?_, ⟨?_, ?_, ?_, by omega⟩, n1_S0 (w := xUpI w l 0 0) (c := 2), ⟨by decide, by decide, by decide⟩, fun j hj => absurd hj (Nat.not_lt_zero _), fun v hv => absurd hv List.not_mem_nil⟩
  · show xI (xNew1 (xUpI w l 0 0) (55, 2) 2) l 2 = nI 0
    rw [n1_I (by show l ≠ xN w; omega), x_uI, if_neg (by omega)]; exact hz
  · exact if_pos ⟨rfl, rfl⟩
  · omega
  · show xN w < xN w + 1; omega
theorem x_sbnew {b : Nat} (hl : (xS w b).1 = 19) (h2 : 256 ≤ b ∧ b < xN w) (hb : 1 ≤ (xB w).1 ∧ 16 ≤ (xB w).2) (hz : xI w b 3 = 0) (q : ∀ w', XSb [] b (xN w) 16 w' → xk (fun i => i = b) w w' → xN w' = xN w + 1 → Q none w') : V_J15_init [.ref b] w Q := by
  refine e_J15_init (r_J15_init_0 ⟨(xB w).1, (xB w).2, ⟨Nat.le_refl _, Nat.le_refl _⟩, hl, e_J14_init (r_J14_init_0 ⟨Nat.le_of_ble_eq_true rfl, r_J14_init_4 ⟨fun z => absurd z (by decide), fun _ => ⟨⟨by decide, hb.1, hb.2, by decide⟩, ?_⟩⟩⟩)⟩)
  have f1 : xk (fun i => i = b) w (xNew1 w (54, 16) 16) := xk_n1 (xk_refl _ w) _ _
  have sl : (xS (xNew1 w (54, 16) 16) b).1 = 19 := by rw [f1.2.1 b h2.2]; exact hl
  refine ⟨sl, h2.1, by show ¬ xN w = 0; omega, sl, h2.1, ⟨rfl, rfl⟩, rfl, r_J15_init_6 ⟨rfl, q _ ?_ (xk_uI (w1 := xUpR (xNew1 w (54, 16) 16) b 0 (xN w)) (xk_uR (w1 := xNew1 w (54, 16) 16) f1 (Or.inl rfl)) (Or.inl rfl)) rfl⟩⟩
  have ei : ∀ i j, xI (xUpI (xUpR (xNew1 w (54, 16) 16) b 0 (xN w)) b 1 0) i j = if i = b ∧ j = 1 then 0 else xI (xNew1 w (54, 16) 16) i j := fun _ _ => rfl
  refine ⟨⟨sl, h2.1, by show b < xN w + 1; omega⟩, ⟨?_, ?_⟩, ⟨?_, ?_, ?_, by omega⟩, n1_S0 (w := w) (c := 16), ⟨by decide, by decide, by decide⟩, fun j hj => absurd hj (Nat.not_lt_zero _), fun v hv => absurd hv List.not_mem_nil, fun j _ _ => ?_⟩
  · exact if_pos ⟨rfl, rfl⟩
  · show xI (xUpI (xUpR (xNew1 w (54, 16) 16) b 0 (xN w)) b 1 0) b 3 = nI 0
    rw [ei, if_neg (by omega), n1_I (by omega)]; exact hz
  · exact if_pos ⟨rfl, rfl⟩
  · omega
  · show xN w < xN w + 1; omega
  · show xI (xUpI (xUpR (xNew1 w (54, 16) 16) b 0 (xN w)) b 1 0) (xN w) j = 0
    rw [ei, if_neg (by omega)]; exact n1_I0
/-- a Chain of the objects L with the signs S -/
def XCh (L S : List Nat) (c A D : Nat) (w : xw) : Prop := ((xS w c).1 = 8 ∧ 256 ≤ c ∧ c < xN w) ∧ (xR w c 0 = c + 1 ∧ xR w c 1 = c + 3) ∧ (c + 2 ≤ A ∧ c + 2 ≤ D ∧ A ≠ c + 3 ∧ D ≠ c + 3 ∧ A ≠ D) ∧ L.length = S.length ∧ (∃ cap, XLa L (c + 1) A cap w) ∧ ∃ cp, XSb S (c + 3) D cp w ∧ 16 ≤ cp
theorem x_chinit {c : Nat} (hn : xN w = c + 1) (hs : (xS w c).1 = 8) (hc : 256 ≤ c) (hb : 4 ≤ (xB w).1 ∧ 40 ≤ (xB w).2) (q : ∀ w', XCh [] [] c (c + 2) (c + 4) w' → xk (fun i => i = c) w w' → xN w' = c + 5 → Q none w') : V_X9_init [.ref c] w Q := by
  have n16 : xNf 16 ≤ 6 := by decide
  have n18 : xNf 18 ≤ 6 := by decide
  refine e_X9_init (r_X9_init_0 ⟨0, 0, ⟨Nat.zero_le _, Nat.zero_le _⟩, hs, e_X8_init (r_X8_init_0 ⟨Nat.le_of_ble_eq_true rfl, r_X8_init_4 ⟨rfl, r_X9_init_4 ⟨⟨by show 1 ≤ (xB w).1 - 0; omega, by show xNf 16 ≤ (xB w).2 - 0; omega⟩, 1, 2, ⟨by show 1 ≤ (xB w).1 - 0 - 1; omega, by show 2 ≤ (xB w).2 - 0 - xNf 16; omega⟩, ?_⟩⟩⟩)⟩)
  have f1 : xk (fun i => i = c) w (xNew1 w (17, 0) (xNf 16)) := xk_n1 (xk_refl _ w) _ _
  have s1 : xS (xNew1 w (17, 0) (xNf 16)) (xN w) = (17, 0) := n1_S0
  refine ⟨by show (xS (xNew1 w (17, 0) (xNf 16)) (xN w)).1 = 17; rw [s1], x_alist (w := xSetB (xNew1 (xSetB (xSetB w _) _) (17, 0) (xNf 16)) (1, 2)) (l := xN w) (by show (xS (xNew1 w (17, 0) (xNf 16)) (xN w)).1 = 17; rw [s1]) ⟨by omega, by show xN w < xN w + 1; omega⟩ ⟨Nat.le_refl _, Nat.le_refl _⟩ (n1_I0 (w := w) (sh := (17, 0)) (c := xNf 16)) (fun w2 L2 k2 n2 => r_X9_init_13 ?_)⟩
  have k2 : xk (fun i => i = xN w) (xNew1 w (17, 0) (xNf 16)) w2 := k2
  have L2 : XLa [] (xN w) (xN w + 1) 2 w2 := L2
  have n2 : xN w2 = xN w + 2 := n2
  have k12 : xk (fun i => i = c) w w2 := ⟨by omega, fun i hi => (k2.2.1 i (by show i < xN w + 1; omega)).trans (f1.2.1 i hi), fun i hi hne => by
    obtain ⟨a1, a2, a3⟩ := f1.2.2 i hi hne
    obtain ⟨b1, b2, b3⟩ := k2.2.2 i (by show i < xN w + 1; omega) (by omega)
    exact ⟨b1.trans a1, b2.trans a2, b3.trans a3⟩⟩
  have sc : (xS w2 c).1 = 8 := by rw [k12.2.1 c (by omega)]; exact hs
  have f3 : xk (fun i => i = c) w2 (xNew1 (xUpR w2 c 0 (xN w)) (19, 0) (xNf 18)) := xk_n1 (xk_uR (E := fun i => i = c) (w1 := w2) (xk_refl _ w2) (Or.inl rfl)) _ _
  have s3 : xS (xNew1 (xUpR w2 c 0 (xN w)) (19, 0) (xNf 18)) (xN w2) = (19, 0) := n1_S0 (w := xUpR w2 c 0 (xN w))
  refine ⟨sc, hc, by show ¬ xN w = 0; omega, ⟨by show 1 ≤ (xB w).1 - 0 - 1 - 1; omega, by show xNf 18 ≤ (xB w).2 - 0 - xNf 16 - 2; omega⟩, 1, 16, ⟨by show 1 ≤ (xB w).1 - 0 - 1 - 1 - 1; omega, by show 16 ≤ (xB w).2 - 0 - xNf 16 - 2 - xNf 18; omega⟩, by show (xS (xNew1 (xUpR w2 c 0 (xN w)) (19, 0) (xNf 18)) (xN w2)).1 = 19; rw [s3], ?_⟩
  refine x_sbnew (w := xSetB (xNew1 (xUpR (xSetB w2 _) c 0 (xN w)) (19, 0) (xNf 18)) (1, 16)) (b := xN w2) (by show (xS (xNew1 (xUpR w2 c 0 (xN w)) (19, 0) (xNf 18)) (xN w2)).1 = 19; rw [s3]) ⟨by omega, by show xN w2 < xN w2 + 1; omega⟩ ⟨Nat.le_refl _, Nat.le_refl _⟩ (n1_I0 (w := xUpR w2 c 0 (xN w)) (sh := (19, 0)) (c := xNf 18)) (fun w4 S4 k4 n4 => r_X9_init_24 ?_)
  have k4 : xk (fun i => i = xN w2) (xNew1 (xUpR w2 c 0 (xN w)) (19, 0) (xNf 18)) w4 := k4
  have S4 : XSb [] (xN w2) (xN w2 + 1) 16 w4 := S4
  have n4 : xN w4 = xN w2 + 2 := n4
  have k24 : xk (fun i => i = c) w2 w4 := ⟨by omega, fun i hi => (k4.2.1 i (by show i < xN w2 + 1; omega)).trans (f3.2.1 i hi), fun i hi hne => by
    obtain ⟨a1, a2, a3⟩ := f3.2.2 i hi hne
    obtain ⟨b1, b2, b3⟩ := k4.2.2 i (by show i < xN w2 + 1; omega) (by omega)
    exact ⟨b1.trans a1, b2.trans a2, b3.trans a3⟩⟩
  have sc4 : (xS w4 c).1 = 8 := by rw [k24.2.1 c (by omega)]; exact sc
  have rc4 : xR w4 c 0 = xN w := by
    rw [(k4.2.2 c (by show c < xN w2 + 1; omega) (by omega)).2.2, n1_R (by show c ≠ xN w2; omega)]
    exact if_pos ⟨rfl, rfl⟩
  refine ⟨sc4, hc, by show ¬ xN w2 = 0; omega, rfl, q _ ?_ (xk_uR (w1 := w4) (xk_trans k12 k24) (Or.inl rfl)) (by show xN w4 = _; omega)⟩
  have kf : xk (fun i => i = c) w4 (xUpR w4 c 1 (xN w2)) := xk_uR (E := fun i => i = c) (w1 := w4) (xk_refl _ w4) (Or.inl rfl)
  rw [hn] at L2
  rw [show xN w2 = c + 3 by omega] at S4
  have L4 : XLa [] (c + 1) (c + 2) 2 (xUpR w4 c 1 (xN w2)) := XLa_k L2 (xk_trans k24 kf) (by omega) (by omega)
  have S5 : XSb [] (c + 3) (c + 4) 16 (xUpR w4 c 1 (xN w2)) := XSb_k S4 kf (by omega) (by omega)
  refine ⟨⟨sc4, hc, by show c < xN w4; omega⟩, ⟨?_, ?_⟩, ⟨by omega, by omega, by omega, by omega, by omega⟩, rfl, ⟨2, ?_⟩, 16, ?_, by omega⟩
  · show (if c = c ∧ 0 = 1 then xN w2 else xR w4 c 0) = _
    rw [if_neg (by omega), rc4]; exact hn
  · show (if c = c ∧ 1 = 1 then xN w2 else xR w4 c 1) = _
    rw [if_pos ⟨rfl, rfl⟩]; omega
  · exact L4
  · exact S5
theorem x_chadd {L S : List Nat} {c A D v s : Nat} {y : Int32} (h : XCh L S c A D w) (hy : y = nI s) (hs : s < 128) (hv : xIsO w v) (hvn : v < xN w) (hL : L.length ≤ 40000) (hb : 2 ≤ L.length → 2 ≤ (xB w).1 ∧ 4 * L.length + 4 ≤ (xB w).2)
    (q : ∀ w' A' D', XCh (L ++ [v]) (S ++ [s]) c A' D' w' → xk (fun i => i = c + 1 ∨ i = A ∨ i = c + 3 ∨ i = D) w w' → (A' = A ∨ xN w ≤ A') → (D' = D ∨ xN w ≤ D') → Q none w') : V_X9_add [.ref c, .int y, .ref v] w Q := by
  subst hy
  obtain ⟨⟨h1, h2, h3⟩, ⟨h4, h5⟩, ⟨g1, g2, g3, g4, g5⟩, hl, ⟨cap, hA⟩, cp, hS, h16⟩ := h
  refine e_X9_add (r_X9_add_0 ?_)
  rw [h5]
  refine ⟨h1, by omega, (if 2 ≤ L.length then 1 else 0), (if 2 ≤ L.length then 2 * L.length + 2 else 0), ?_, hS.1.1, x_append (w := xSetB w _) hS hs (by omega) (fun e => ?_) (fun w2 r2 => r_X9_add_8 ?_)⟩
  · by_cases c2 : 2 ≤ L.length
    · have := hb c2
      rw [if_pos c2, if_pos c2]; omega
    · rw [if_neg c2, if_neg c2]; exact ⟨Nat.zero_le _, Nat.zero_le _⟩
  · have c2 : 2 ≤ L.length := by omega
    show 1 ≤ (if 2 ≤ L.length then 1 else 0) ∧ 2 * cp + 2 ≤ (if 2 ≤ L.length then 2 * L.length + 2 else 0)
    rw [if_pos c2, if_pos c2]; omega
  obtain ⟨D', cp', S2, k2, n2, d2, e2⟩ := r2
  have k2 : xk (fun i => i = c + 3 ∨ i = D) w w2 := k2
  have d2 : D' = D ∨ D' = xN w := d2
  have lA := hA.1.2.2
  have lA2 := hA.2.2.1.2.2.1
  have A2 : XLa L (c + 1) A cap w2 := XLa_k hA k2 (by omega) (by omega)
  obtain ⟨z1, z2, z3⟩ := k2.2.2 c h3 (by omega)
  have rc : xR w2 c 0 = c + 1 := by rw [z3]; exact h4
  have sc : (xS w2 c).1 = 8 := by rw [k2.2.1 c h3]; exact h1
  show (xS w2 c).1 = 8 ∧ ¬ xR w2 c 0 = 0 ∧ _
  have rcB : ∀ b, xR (xSetB w2 b) c 0 = c + 1 := fun _ => rc
  rw [rcB]
  refine ⟨sc, by omega, (if 2 ≤ L.length then 1 else 0), (if 2 ≤ L.length then 2 * L.length + 2 else 0), ?_, A2.1.1, x_add (w := xSetB w2 _) A2 (by unfold xIsO at hv ⊢; show 1 ≤ (xS w2 v).1 ∧ (xS w2 v).1 ≤ 19; rw [k2.2.1 v hvn]; exact hv) (Nat.lt_of_lt_of_le hvn k2.1) (by omega) (fun e => ?_) (fun w3 r3 => r_X9_add_19 ⟨rfl, ?_⟩)⟩
  · show (if 2 ≤ L.length then 1 else 0) ≤ (xB w).1 - (if 2 ≤ L.length then 1 else 0) ∧ (if 2 ≤ L.length then 2 * L.length + 2 else 0) ≤ (xB w).2 - (if 2 ≤ L.length then 2 * L.length + 2 else 0)
    by_cases c2 : 2 ≤ L.length
    · have := hb c2
      rw [if_pos c2, if_pos c2]; omega
    · rw [if_neg c2, if_neg c2]; exact ⟨Nat.zero_le _, Nat.zero_le _⟩
  · have c2 : 2 ≤ L.length := by have := hA.2.2.2.2.1; omega
    show 1 ≤ (if 2 ≤ L.length then 1 else 0) ∧ cap + max 1 (cap / 2) ≤ (if 2 ≤ L.length then 2 * L.length + 2 else 0)
    rw [if_pos c2, if_pos c2]; omega
  obtain ⟨A', cap', A3, k3, n3, a3, _, _, _, _⟩ := r3
  have k3 : xk (fun i => i = c + 1 ∨ i = A) w2 w3 := k3
  have a3 : A' = A ∨ A' = xN w2 := a3
  have hS2 := S2.2.2.1
  have hS21 := S2.1
  have S3 : XSb (S ++ [s]) (c + 3) D' cp' w3 := XSb_k S2 k3 (by omega) (by have := k2.1; omega)
  obtain ⟨y1, y2, y3⟩ := k3.2.2 c (Nat.lt_of_lt_of_le h3 k2.1) (by omega)
  have nn := k2.1
  have n33 := k3.1
  refine q _ A' D' ⟨⟨?_, h2, ?_⟩, ⟨?_, ?_⟩, ⟨by omega, by omega, by omega, by omega, by omega⟩, by rw [List.length_append, List.length_append, hl]; rfl, ⟨cap', A3⟩, cp', S3, by omega⟩ ?_ (by omega) (by omega)
  · show (xS w3 c).1 = 8
    rw [k3.2.1 c (by omega)]; exact sc
  · show c < xN w3; omega
  · show xR w3 c 0 = _; rw [y3]; exact rc
  · show xR w3 c 1 = _; rw [y3, z3]; exact h5
  · exact xk_trans (xk_wk k2 (fun i _ hi => by omega)) ⟨n33, k3.2.1, fun i hi hne => k3.2.2 i hi (by omega)⟩
end
