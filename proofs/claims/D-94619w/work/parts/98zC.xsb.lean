/-! X: builders of strings -/
section
variable {Q : Option Value → xw → Prop} {w : xw}
theorem shl0 (x : Int32) : x <<< ((0 : Int32) &&& 31) = x := by
  rw [show ((0 : Int32) &&& 31) = 0 from by decide]; simp
theorem shr0 (x : Int32) : x >>> ((0 : Int32) &&& 31) = x := by
  rw [show ((0 : Int32) &&& 31) = 0 from by decide]; simp
theorem ft_b : ∀ c, c < 128 → fits .byte (.int (nI c)) = true := by decide
theorem nb_b : ∀ c, c < 128 → Int8.toInt32 (Int32.toInt8 (Int8.toInt32 (Int32.toInt8 (nI c)))) = nI c := by decide +kernel
def cpI (w : xw) (A cap m : Nat) (w' : xw) : Prop := xN w' = xN w + 1 ∧ xS w' (xN w) = (54, m) ∧ (∀ j, j < cap → xI w' (xN w) j = xI w A j) ∧ (∀ j, cap ≤ j → xI w' (xN w) j = 0) ∧ xk (fun _ => False) w w'
theorem x_copyB {A cap m : Nat} (hA : A < xN w) (hS : xS w A = (54, cap)) (hn : 256 ≤ xN w) (hm : cap < m) (hm2 : m ≤ 2000000) (hb : 1 ≤ (xB w).1 ∧ m ≤ (xB w).2) (hel : ∀ j, j < cap → fits .byte (.int (xI w A j)) = true) (q : ∀ w', cpI w A cap m w' → Q (some (.ref (xN w))) w') : V_J13_copyOf_3 [.ref A, .int (nI m)] w Q := by
  refine e_J13_copyOf_3 (r_J13_copyOf_3_0 ?_)
  have eA : xS (xNew1 w (54, m) m) A = (54, cap) := (n1_S (by omega)).trans hS
  have hnl : ¬ (nI m < (0 : Int32)) := by rw [show (nI m < (0 : Int32)) ↔ m < 0 from n_lt (b := 0) (by omega) (by omega)]; omega
  have h0 : ¬ ((0 : Int32) < 0) := by decide
  rw [n_tn (by omega), eA, hS, show (nI m = Int32.ofNat cap) ↔ m = cap from n_eq (by omega) (by omega)]
  refine ⟨⟨by dsimp only; omega, by dsimp only; omega⟩, fun _ => ⟨⟨hnl, hb.1, hb.2, by omega⟩, ⟨by dsimp only; omega, by dsimp only; omega⟩, x_min (a := cap) (by omega) (by omega) (r_J13_copyOf_3_28 ?_)⟩, fun z => absurd (Nat.ne_of_gt hm) z⟩
  rw [Nat.min_eq_left (by omega), n_tn (by omega), show Int32.toNatClampNeg 0 = 0 from by decide, eA]
  have eN : xS (xNew1 w (54, m) m) (xN w) = (54, m) := n1_S0
  have eI : xI (xNew1 w (54, m) m) A = xI w A := n1_I (by omega)
  rw [eN, eI]
  have hnc : ¬ (nI cap < (0 : Int32)) := by rw [show (nI cap < (0 : Int32)) ↔ cap < 0 from n_lt (b := 0) (by omega) (by omega)]; omega
  refine ⟨⟨rfl, rfl, hn, Nat.le_of_ble_eq_true rfl⟩, ⟨h0, h0, hnc, by dsimp only; omega, by dsimp only; omega⟩, fun j hj => by rw [Nat.zero_add]; exact hel j hj, r_J13_copyOf_3_31 ⟨⟨_, rfl, rfl⟩, q _ ?_⟩⟩
  have ec : ∀ j, xI (xCpI (xNew1 w (54, m) m) (xN w) 0 A 0 cap) (xN w) j = if j < cap then xI w A j else 0 := fun j => by
    show (if xN w = xN w then va_cpy (xI (xNew1 w (54, m) m) A) (xI (xNew1 w (54, m) m) (xN w)) 0 0 cap j else _) = _
    rw [if_pos rfl, eI]
    unfold va_cpy
    by_cases c : j < cap
    · rw [if_pos ⟨Nat.zero_le _, by omega⟩, if_pos c]; congr 1; omega
    · rw [if_neg (by omega), if_neg c]; exact n1_I0
  refine ⟨rfl, eN, fun j hj => ?_, fun j hj => ?_, ?_⟩
  · have := ec j; rw [if_pos hj] at this; exact this
  · have := ec j; rw [if_neg (by omega)] at this; exact this
  · have k1 : xk (fun _ => False) w (xNew1 w (54, m) m) := xk_n1 (xk_refl _ w) _ _
    refine ⟨k1.1, k1.2.1, fun i hi hn2 => ?_⟩
    obtain ⟨c1, c2, c3⟩ := k1.2.2 i hi hn2
    refine ⟨?_, c2, c3⟩
    rw [← c1]
    funext j
    show (if i = xN w then _ else _) = _
    rw [if_neg (by omega)]
/-- a builder: its text, its bytes -/
def XSb (S : List Nat) (b A cap : Nat) (w : xw) : Prop := ((xS w b).1 = 19 ∧ 256 ≤ b ∧ b < xN w) ∧ (xI w b 1 = 0 ∧ xI w b 3 = nI S.length) ∧ (xR w b 0 = A ∧ 256 ≤ A ∧ A < xN w ∧ A ≠ b) ∧ xS w A = (54, cap) ∧ (S.length ≤ cap ∧ 1 ≤ cap ∧ cap ≤ 100000) ∧ (∀ j, j < S.length → xI w A j = nI (S.getD j 0)) ∧ (∀ c, c ∈ S → c < 128) ∧ ∀ j, S.length ≤ j → j < cap → xI w A j = 0
theorem XSb_k {S : List Nat} {b A cap : Nat} {E : Nat → Prop} {w' : xw} (h : XSb S b A cap w) (k : xk E w w') (h1 : ¬ E b) (h2 : ¬ E A) : XSb S b A cap w' := by
  obtain ⟨⟨h1', h2', h3⟩, ⟨h4, h4'⟩, ⟨h5, h6, h7, h8⟩, h9, i1, i4, i5, i6⟩ := h
  obtain ⟨a1, a2, a3⟩ := k.2.2 b h3 h1
  obtain ⟨b1, b2, b3⟩ := k.2.2 A h7 h2
  have kn := k.1
  exact ⟨⟨by rw [k.2.1 b h3]; exact h1', h2', by omega⟩, ⟨by rw [a1]; exact h4, by rw [a1]; exact h4'⟩, ⟨by rw [a3]; exact h5, h6, by omega, h8⟩, by rw [k.2.1 A h7]; exact h9, i1, fun j hj => by rw [b1]; exact i4 j hj, i5, fun j hj hj2 => by rw [b1]; exact i6 j hj hj2⟩
theorem sb_fits {S : List Nat} {b A cap : Nat} (h : XSb S b A cap w) : ∀ j, j < cap → fits .byte (.int (xI w A j)) = true := fun j hj => by
  by_cases c : j < S.length
  · rw [h.2.2.2.2.2.1 j c]; exact ft_b _ (h.2.2.2.2.2.2.1 _ (getD_mem c))
  · rw [h.2.2.2.2.2.2.2 j (by omega) hj]; exact ft_b 0 (by omega)
theorem x_newCap {S : List Nat} {b A cap : Nat} (h : XSb S b A cap w) (hc : S.length = cap) (q : ∀ b', Q (some (.int (nI (2 * cap + 2)))) (xSetB w b')) : V_J14_newCapacity [.ref b, .int (nI (cap + 1))] w Q := by
  obtain ⟨⟨h1, h2, h3⟩, ⟨h4, h4'⟩, ⟨h5, h6, h7, h8⟩, h9, ⟨i1, i2, i3⟩, i4, i5, i6⟩ := id h
  refine e_J14_newCapacity (r_J14_newCapacity_0 ?_)
  rw [h4, h5, h9, shl0, show (2 : Int32) <<< ((0 : Int32) &&& 31) = 2 from by decide]
  have hd : nI (cap + 1) - Int32.ofNat cap = nI 1 := by
    rw [show Int32.ofNat cap = nI cap from rfl, n_sub (by omega)]; congr 1; omega
  have ha : Int32.ofNat cap + 2 = nI (cap + 2) := n_add cap 2
  rw [hd, ha]
  refine ⟨h1, by omega, ⟨by dsimp only; omega, by dsimp only; omega⟩, h1, h1, 0, 0, ⟨Nat.zero_le _, Nat.zero_le _⟩, x_newLength (n := cap) (by omega) (by omega) (r_J14_newCapacity_32 ?_)⟩
  have em : cap + max 1 (cap + 2) = 2 * cap + 2 := by omega
  have e4 : xI (xSetB (xSetB w (0, 0)) ((xB w).1 - 0, (xB w).2 - 0)) b 1 = 0 := h4
  rw [em, e4, shr0, show (nI (2 * cap + 2) = (2147483647 : Int32)) ↔ 2 * cap + 2 = 2147483647 from n_eq (b := 2147483647) (by omega) (by omega)]
  exact ⟨fun _ => ⟨h1, trivial, q _⟩, fun z => absurd (by omega) z⟩
/-- what append leaves -/
def apR (S : List Nat) (b A cap c : Nat) (w w' : xw) : Prop := ∃ A' cap', XSb (S ++ [c]) b A' cap' w' ∧ xk (fun i => i = b ∨ i = A) w w' ∧ xN w' ≤ xN w + 1 ∧ (A' = A ∨ A' = xN w) ∧ (cap' = cap ∨ cap' = 2 * cap + 2)
theorem x_ensure {S : List Nat} {b A cap : Nat} (h : XSb S b A cap w) (hL : S.length ≤ 40000) (hb : S.length = cap → 1 ≤ (xB w).1 ∧ 2 * cap + 2 ≤ (xB w).2) (q : ∀ w' A' cap', XSb S b A' cap' w' → S.length < cap' → xk (fun i => i = b ∨ i = A) w w' → xN w' ≤ xN w + 1 → (A' = A ∨ A' = xN w) → (cap' = cap ∨ cap' = 2 * cap + 2) → Q none w') : V_J14_ensureCapacityInternal [.ref b, .int (nI (S.length + 1))] w Q := by
  obtain ⟨⟨h1, h2, h3⟩, ⟨h4, h4'⟩, ⟨h5, h6, h7, h8⟩, h9, ⟨i1, i2, i3⟩, i4, i5, i6⟩ := id h
  refine e_J14_ensureCapacityInternal (r_J14_ensureCapacityInternal_0 ?_)
  rw [h4, h5, h9, shr0]
  have hd : (nI (S.length + 1) - Int32.ofNat cap ≤ (0 : Int32)) ↔ S.length + 1 ≤ cap := by
    rw [show Int32.ofNat cap = nI cap from rfl]
    by_cases c : S.length = cap
    · rw [c, n_sub (by omega), show cap + 1 - cap = 1 from by omega]
      exact ⟨fun z => absurd z (by decide), fun z => by omega⟩
    · refine ⟨fun _ => by omega, fun _ => ?_⟩
      rw [Int32.le_iff_toInt_le, Int32.toInt_sub, n_T (by omega), n_T (by omega), Int.bmod_eq_of_le (by omega) (by omega)]
      show _ ≤ (0 : Int)
      omega
  rw [hd]
  refine ⟨h1, by omega, ⟨by dsimp only; omega, by dsimp only; omega⟩, h1, fun c => ⟨rfl, q w A cap h (by omega) (xk_refl _ w) (by omega) (Or.inl rfl) (Or.inl rfl)⟩, fun c => ?_⟩
  have c : S.length = cap := by omega
  obtain ⟨hb1, hb2⟩ := hb c
  rw [c]
  refine ⟨h1, by omega, 0, 0, ⟨Nat.zero_le _, Nat.zero_le _⟩, h1, x_newCap (w := xSetB w (0, 0)) h c (fun b' => r_J14_ensureCapacityInternal_27 ?_)⟩
  have e4 : xI (xSetB (xSetB (xSetB w (0, 0)) b') ((xB w).1 - 0, (xB w).2 - 0)) b 1 = 0 := h4
  rw [e4, shl0]
  refine ⟨h1, 1, 2 * cap + 2, ⟨by show 1 ≤ (xB w).1 - 0; omega, by show _ ≤ (xB w).2 - 0; omega⟩, ?_⟩
  refine x_copyB (A := A) (cap := cap) (m := 2 * cap + 2) h7 h9 (by show 256 ≤ xN w; omega) (by omega) (by omega) ⟨Nat.le_refl _, Nat.le_refl _⟩ (sb_fits h) (fun w2 c2 => r_J14_ensureCapacityInternal_35 ?_)
  obtain ⟨g1, g2, g3, g4, g5⟩ := c2
  have g1 : xN w2 = xN w + 1 := g1
  have g2 : xS w2 (xN w) = (54, 2 * cap + 2) := g2
  have g3 : ∀ j, j < cap → xI w2 (xN w) j = xI w A j := g3
  have g4 : ∀ j, cap ≤ j → xI w2 (xN w) j = 0 := g4
  have g5 : xk (fun _ => False) w w2 := g5
  obtain ⟨k1, k2, k3⟩ := g5.2.2 b h3 (fun z => z)
  refine ⟨by show (xS w2 b).1 = 19; rw [g5.2.1 b h3]; exact h1, h2, by show xN w ≠ 0; omega, rfl, q _ (xN w) (2 * cap + 2) ⟨⟨by show (xS w2 b).1 = 19; rw [g5.2.1 b h3]; exact h1, h2, by show b < xN w2; omega⟩, ⟨by show xI w2 b 1 = 0; rw [k1]; exact h4, by show xI w2 b 3 = _; rw [k1]; exact h4'⟩, ⟨?_, by omega, by show xN w < xN w2; omega, by omega⟩, g2, ⟨by omega, by omega, by omega⟩, fun j hj => ?_, i5, fun j hj hj2 => ?_⟩ (by omega) ?_ (by show xN w2 ≤ _; omega) (Or.inr rfl) (Or.inr rfl)⟩
  · show xR (xUpR w2 b 0 (xN w)) b 0 = _
    rw [x_uRR, if_pos ⟨rfl, rfl⟩]
  · show xI w2 (xN w) j = _
    rw [g3 j (by omega)]; exact i4 j hj
  · show xI w2 (xN w) j = 0
    exact g4 j (by omega)
  · exact xk_sB (xk_uR (E := fun i => i = b ∨ i = A) (xk_sB (xk_wk g5 (fun i _ z => z.elim)) _) (Or.inl (Or.inl rfl))) _
theorem x_append {S : List Nat} {b A cap c : Nat} (h : XSb S b A cap w) (hc : c < 128) (hL : S.length ≤ 40000) (hb : S.length = cap → 1 ≤ (xB w).1 ∧ 2 * cap + 2 ≤ (xB w).2) (q : ∀ w', apR S b A cap c w w' → Q (some (.ref b)) w') : V_J15_append [.ref b, .int (nI c)] w Q := by
  obtain ⟨⟨h1, h2, h3⟩, ⟨h4, h4'⟩, ⟨h5, h6, h7, h8⟩, h9, ⟨i1, i2, i3⟩, i4, i5, i6⟩ := id h
  refine e_J15_append (r_J15_append_0 ⟨(xB w).1, (xB w).2, ⟨Nat.le_refl _, Nat.le_refl _⟩, h1, e_J14_append (r_J14_append_0 ⟨h1, (xB w).1, (xB w).2, ⟨Nat.le_refl _, Nat.le_refl _⟩, h1, ?_⟩)⟩)
  have e3 : xI (xSetB w ((xB w).1, (xB w).2)) b 3 + 1 = nI (S.length + 1) := by
    show xI w b 3 + 1 = _
    rw [h4']; exact n_add _ 1
  rw [e3]
  refine x_ensure (w := xSetB (xSetB w ((xB w).1, (xB w).2)) ((xB w).1, (xB w).2)) h hL hb (fun w1 A1 cap1 X1 hl1 k1 n1 hA1 hcap1 => r_J14_append_10 ?_)
  obtain ⟨⟨a1, a2, a3⟩, ⟨a4, a4'⟩, ⟨a5, a6, a7, a8⟩, a9, ⟨j1, j2, j3⟩, j4, j5, j6⟩ := id X1
  have k1 : xk (fun i => i = b ∨ i = A) w w1 := k1
  have n1 : xN w1 ≤ xN w + 1 := n1
  have hA1 : A1 = A ∨ A1 = xN w := hA1
  generalize hw2 : xSetB w1 _ = w2
  have sb2 : ∀ X : xw, (∃ z, X = xSetB w1 z) → xS X = xS w1 ∧ xI X = xI w1 ∧ xR X = xR w1 ∧ xN X = xN w1 := fun X hX => by obtain ⟨z, rfl⟩ := hX; exact ⟨rfl, rfl, rfl, rfl⟩
  have w2e : ∃ z, w2 = xSetB w1 z := ⟨_, hw2.symm⟩
  obtain ⟨s2, ii2, r2, nn2⟩ := sb2 w2 w2e
  refine ⟨0, 0, ⟨Nat.zero_le _, Nat.zero_le _⟩, by show (xS w2 b).1 = 19; rw [s2]; exact a1, e_J14_isLatin1 (r_J14_isLatin1_0 ⟨fun z => absurd z (by decide), fun _ => ⟨by show (xS w2 b).1 = 19; rw [s2]; exact a1, fun z => absurd (by show xI w2 b 1 = 0; rw [ii2]; exact a4) z, fun _ => ⟨nr_1, r_J14_append_14 ⟨fun z => absurd z (by decide), fun _ => ⟨0, 0, ⟨Nat.zero_le _, Nat.zero_le _⟩, e_J9_canEncode (r_J9_canEncode_0 ⟨fun z => ?_, fun _ => ⟨nr_1, r_J14_append_21 ⟨fun z => absurd z (by decide), fun _ => ?_⟩⟩⟩)⟩⟩⟩⟩⟩)⟩
  · have := (n_lt (a := 255) (b := c) (by omega) (by omega)).mp z
    omega
  generalize hw3 : xSetB _ _ = w3
  have w3e : ∃ z, w3 = xSetB w1 z := by
    obtain ⟨z2, hz2⟩ := w2e
    rw [← hw3, hz2]
    exact ⟨_, rfl⟩
  obtain ⟨s3, ii3, r3, nn3⟩ := sb2 w3 w3e
  have ek : xI w3 b 3 = nI S.length := by rw [ii3]; exact a4'
  have er : xR w3 b 0 = A1 := by rw [r3]; exact a5
  rw [ek, er, n_tn (by omega), nb_b c hc, show nI S.length + 1 = nI (S.length + 1) from n_add _ 1]
  refine ⟨by rw [s3]; exact a1, by omega, by rw [s3]; exact a1, by rw [s3]; exact a1, h2, by show (xS w3 A1).1 = 54; rw [s3, a9], a6, by show vp_in _ (xS w3 A1).2; rw [s3, a9]; exact (n_in (by omega)).mpr (by dsimp only; omega), r_J14_append_75 ⟨⟨_, rfl, rfl⟩, r_J15_append_5 ⟨⟨_, rfl, rfl⟩, q _ ⟨A1, cap1, ⟨⟨by show (xS w3 b).1 = 19; rw [s3]; exact a1, h2, by show b < xN w3; omega⟩, ⟨?_, ?_⟩, ⟨by show xR w3 b 0 = A1; exact er, a6, by show A1 < xN w3; omega, a8⟩, by show xS w3 A1 = _; rw [s3]; exact a9, ⟨by rw [List.length_append, List.length_singleton]; omega, j2, j3⟩, fun j hj => ?_, fun u hu => ?_, fun j hj hj2 => ?_⟩, ?_, by show xN w3 ≤ _; omega, hA1, hcap1⟩⟩⟩⟩
  · show xI (xUpI (xUpI w3 b 3 (nI (S.length + 1))) A1 S.length (nI c)) b 1 = 0
    rw [x_uI, if_neg (by omega), x_uI, if_neg (by omega), ii3]; exact a4
  · show xI (xUpI (xUpI w3 b 3 (nI (S.length + 1))) A1 S.length (nI c)) b 3 = _
    rw [x_uI, if_neg (by omega), x_uI, if_pos ⟨rfl, rfl⟩, List.length_append, List.length_singleton]
  · show xI (xUpI (xUpI w3 b 3 (nI (S.length + 1))) A1 S.length (nI c)) A1 j = _
    rw [List.length_append, List.length_singleton] at hj
    rw [x_uI]
    by_cases e : j = S.length
    · rw [if_pos ⟨rfl, e⟩, e, getD_app]
    · rw [if_neg (by omega), x_uI, if_neg (by omega), ii3, getD_app2 S c j (by omega)]; exact j4 j (by omega)
  · rcases List.mem_append.mp hu with g | g
    · exact i5 u g
    · rw [List.mem_singleton.mp g]; exact hc
  · show xI (xUpI (xUpI w3 b 3 (nI (S.length + 1))) A1 S.length (nI c)) A1 j = 0
    rw [List.length_append, List.length_singleton] at hj
    rw [x_uI, if_neg (by omega), x_uI, if_neg (by omega), ii3]; exact j6 j (by omega) hj2
  · have k3 : xk (fun i => i = b ∨ i = A) w w3 := by
      obtain ⟨z, hz⟩ := w3e
      rw [hz]; exact xk_sB k1 _
    refine xk_sB (xk_sB (xk_uI (E := fun i => i = b ∨ i = A) (xk_uI (E := fun i => i = b ∨ i = A) k3 (Or.inl (Or.inl rfl))) ?_) _) _
    rcases hA1 with g | g
    · exact Or.inl (Or.inr g)
    · exact Or.inr (by omega)
end
