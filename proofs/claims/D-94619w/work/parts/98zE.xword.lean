/-! X: strings and words -/
section
variable {Q : Option Value → xw → Prop} {Qx : Nat → xw → Prop} {w : xw} {T : List Nat} {a : Nat}
/-- a String of such bytes -/
def XStr (S : List Nat) (o : Nat) (w : xw) : Prop := ((xS w o).1 = 18 ∧ 1 ≤ o ∧ o < xN w) ∧ xI w o 1 = 0 ∧ (1 ≤ xR w o 0 ∧ xR w o 0 < xN w) ∧ xS w (xR w o 0) = (54, S.length) ∧ (∀ j, j < S.length → xI w (xR w o 0) j = nI (S.getD j 0)) ∧ (∀ c, c ∈ S → c < 128) ∧ S.length < 100000
theorem x_comp2 {S : List Nat} {C D : Nat} (hC : xS w C = (53, S.length)) (hD : xS w D = (54, S.length)) (hD2 : 256 ≤ D) (hne : C ≠ D) (hs : ∀ j, j < S.length → xI w C j = nI (S.getD j 0)) (h128 : ∀ c, c ∈ S → c < 128) (hl : S.length < 100000)
    (q : ∀ w', (xN w' = xN w ∧ xS w' = xS w ∧ xL w' = xL w ∧ xR w' = xR w ∧ ∀ i, i ≠ D → xI w' i = xI w i) → (∀ j, j < S.length → xI w' D j = nI (S.getD j 0)) → Q (some (.int (nI S.length))) w') : V_J7_compress_2 [.ref C, .int (nI 0), .ref D, .int (nI 0), .int (nI S.length)] w Q := by
  refine e_J7_compress_2 (r_J7_compress_2_0 ?_)
  refine upTo S.length (fun k (w' : xw) => (xN w' = xN w ∧ xS w' = xS w ∧ xL w' = xL w ∧ xR w' = xR w ∧ ∀ i, i ≠ D → xI w' i = xI w i) ∧ ∀ j, j < k → xI w' D j = nI (S.getD j 0)) (fun k w' => ∀ {o6 : Option Value}, T_J7_compress_2 Q 3 [some (.ref C), some (.int (nI k)), some (.ref D), some (.int (nI k)), some (.int (nI S.length)), some (.int (nI k)), o6] [] w') ?_ ?_ 0 w (by omega) ⟨⟨rfl, rfl, rfl, rfl, fun _ _ => rfl⟩, fun j hj => by omega⟩
  · intro w' hI o6
    exact r_J7_compress_2_3 ⟨fun _ => ⟨trivial, q w' hI.1 hI.2⟩, fun z => absurd (Int32.le_refl _) z⟩
  · intro k w' hk hI next o6
    obtain ⟨⟨n1, s1, l1, r1, i1⟩, i2⟩ := hI
    have hm := h128 _ (getD_mem hk)
    refine r_J7_compress_2_3 ?_
    rw [n_le (by omega) (by omega), n_tn (by omega), i1 C hne, hs k hk, s1, hC, hD, show (nI (S.getD k 0) ≤ (255 : Int32)) ↔ S.getD k 0 ≤ 255 from n_le (b := 255) (by omega) (by omega), nb_b _ hm, show nI k + 1 = nI (k + 1) from n_add k 1]
    refine ⟨fun z => by omega, fun _ => ⟨rfl, (n_in (by omega)).mpr (by dsimp only; omega), fun _ => ⟨rfl, hD2, (n_in (by omega)).mpr (by dsimp only; omega), next (xUpI w' D k (nI (S.getD k 0))) ⟨⟨n1, s1, l1, r1, fun i hi => ?_⟩, fun j hj => ?_⟩⟩, fun z => absurd (by omega) z⟩⟩
    · rw [(xUpI_ne w' D k _ i hi).1]; exact i1 i hi
    · rw [x_uI]
      by_cases e : j = k
      · rw [if_pos ⟨rfl, e⟩, e]
      · rw [if_neg (by omega)]; exact i2 j (by omega)
theorem x_coder {o n : Nat} (h : xS w o = (54, n)) (q : Q (some (.int (nI 0))) w) : V_J7_coderFromArrayLen [.ref o, .int (nI n)] w Q := by
  refine e_J7_coderFromArrayLen (r_J7_coderFromArrayLen_0 ?_)
  have e : nI n - Int32.ofNat (xS w o).2 = 0 := by rw [h]; exact Int32.sub_self _
  rw [e, h]
  exact ⟨⟨by dsimp only; omega, by dsimp only; omega⟩, rfl, q⟩
/-- a String is made out of chars -/
theorem x_valueOf {S : List Nat} {C : Nat} (hn : 256 ≤ xN w) (hCn : C < xN w) (hC : xS w C = (53, S.length)) (hs : ∀ j, j < S.length → xI w C j = nI (S.getD j 0)) (h128 : ∀ c, c ∈ S → c < 128) (hl : S.length < 100000) (h0 : 0 < S.length) (hb : 2 ≤ (xB w).1 ∧ xNf 17 + S.length ≤ (xB w).2)
    (q : ∀ w', xN w' = xN w + 2 → XStr S (xN w) w' → xk (fun _ => False) w w' → (xI w' (xN w) 2 = 0 ∧ xI w' (xN w) 3 = 0) ∧ xR w' (xN w) 0 = xN w + 1 → Q (some (.ref (xN w))) w') : V_J6_valueOf [.ref C] w Q := by
  refine e_J6_valueOf (r_J6_valueOf_0 ⟨⟨by omega, by omega⟩, (xB (xNew1 w (18, 0) (xNf 17))).1, (xB (xNew1 w (18, 0) (xNf 17))).2, ⟨Nat.le_refl _, Nat.le_refl _⟩, by rw [xS_sB, n1_S0], ?_⟩)
  have b1 : (xB (xNew1 w (18, 0) (xNf 17))).1 = (xB w).1 - 1 := rfl
  have b2 : (xB (xNew1 w (18, 0) (xNf 17))).2 = (xB w).2 - xNf 17 := rfl
  have kk1 : xk (fun _ => False) w (xNew1 w (18, 0) (xNf 17)) := xk_n1 (xk_refl _ w) _ _
  generalize hw1 : xSetB (xNew1 w (18, 0) (xNf 17)) ((xB (xNew1 w (18, 0) (xNf 17))).1, (xB (xNew1 w (18, 0) (xNf 17))).2) = w1
  have k1 : xk (fun _ => False) w w1 := by rw [← hw1]; exact xk_sB kk1 _
  have n1 : xN w1 = xN w + 1 := by rw [← hw1]; rfl
  have s1 : xS w1 (xN w) = (18, 0) := by rw [← hw1]; exact n1_S0
  have B1 : xB w1 = ((xB w).1 - 1, (xB w).2 - xNf 17) := by rw [← hw1]; rfl
  have c1 : xS w1 C = (53, S.length) := by rw [k1.2.1 C hCn]; exact hC
  have ci : xI w1 C = xI w C := (k1.2.2 C hCn (fun z => z)).1
  have si : ∀ j, xI w1 (xN w) j = 0 := fun j => by rw [← hw1]; exact n1_I0
  refine e_J6_init (r_J6_init_0 ?_)
  rw [c1, show Int32.ofNat (S.length) = nI S.length from rfl]
  refine ⟨⟨by dsimp only; omega, by dsimp only; omega⟩, (xB w1).1, (xB w1).2, ⟨Nat.le_refl _, Nat.le_refl _⟩, by rw [xS_sB, s1], e_J6_init_2 (r_J6_init_2_0 ⟨Nat.le_of_ble_eq_true rfl, r_J6_init_2_4 ?_⟩)⟩
  rw [show (nI S.length = (0 : Int32)) ↔ S.length = 0 from n_eq (b := 0) (by omega) (by omega)]
  refine ⟨fun _ => ⟨fun z => absurd z (by decide), fun _ => ⟨(xB w1).1, (xB w1).2, ⟨Nat.le_refl _, Nat.le_refl _⟩, ?_⟩⟩, fun z => absurd (by omega) z⟩
  -- the bytes
  generalize hw2 : xSetB (xSetB w1 ((xB w1).1, (xB w1).2)) ((xB w1).1, (xB w1).2) = w2
  have e2 : w2 = w1 := by rw [← hw2]; rfl
  subst e2
  have hnl : ¬ (nI S.length < (0 : Int32)) := by rw [show (nI S.length < (0 : Int32)) ↔ S.length < 0 from n_lt (b := 0) (by omega) (by omega)]; omega
  refine e_J7_compress (r_J7_compress_0 ?_)
  rw [n_tn (by omega)]
  refine ⟨⟨hnl, by rw [B1]; show 1 ≤ (xB w).1 - 1; omega, by rw [B1]; show _ ≤ (xB w).2 - xNf 17; omega, by omega⟩, 0, 0, ⟨Nat.zero_le _, Nat.zero_le _⟩, ?_⟩
  have kk3 : xk (fun _ => False) w2 (xNew1 w2 (54, S.length) S.length) := xk_n1 (xk_refl _ w2) _ _
  refine x_comp2 (S := S) (C := C) (D := xN w2) ?_ ?_ (by omega) (by omega) (fun j hj => ?_) h128 hl (fun w4 f4 hd4 => r_J7_compress_12 ⟨fun _ => ⟨⟨_, rfl, rfl⟩, r_J6_init_2_39 ?_⟩, fun z => absurd rfl z⟩)
  · rw [xS_sB, kk3.2.1 C (by omega)]; exact c1
  · rw [xS_sB]; exact n1_S0
  · show xI (xNew1 w2 (54, S.length) S.length) C j = _
    rw [(kk3.2.2 C (by omega) (fun z => z)).1, ci]; exact hs j hj
  obtain ⟨n4, s4, l4, r4, i4⟩ := f4
  have n4 : xN w4 = xN w + 2 := by rw [n4]; show xN w2 + 1 = _; omega
  have s4 : xS w4 = xS (xNew1 w2 (54, S.length) S.length) := s4
  have l4 : xL w4 = xL (xNew1 w2 (54, S.length) S.length) := l4
  have r4 : xR w4 = xR (xNew1 w2 (54, S.length) S.length) := r4
  have i4 : ∀ i, i ≠ xN w2 → xI w4 i = xI (xNew1 w2 (54, S.length) S.length) i := i4
  have sD : xS w4 (xN w2) = (54, S.length) := by rw [s4]; exact n1_S0
  have sO : xS w4 (xN w) = (18, 0) := by rw [s4, kk3.2.1 (xN w) (by omega)]; exact s1
  have k4 : xk (fun _ => False) w2 w4 := ⟨by omega, fun i hi => by rw [s4]; exact kk3.2.1 i hi, fun i hi hn9 => by
    obtain ⟨z1, z2, z3⟩ := kk3.2.2 i hi hn9
    exact ⟨by rw [i4 i (by omega)]; exact z1, by rw [l4]; exact z2, by rw [r4]; exact z3⟩⟩
  have z4 : ∀ j, xI w4 (xN w) j = 0 := fun j => by rw [i4 (xN w) (by omega), (kk3.2.2 (xN w) (by omega) (fun z => z)).1]; exact si j
  refine ⟨0, 0, ⟨Nat.zero_le _, Nat.zero_le _⟩, x_coder (n := S.length) sD (r_J6_init_2_48 ⟨by show (xS w4 (xN w)).1 = 18; rw [sO], hn, ⟨rfl, rfl⟩, by show (xS w4 (xN w)).1 = 18; rw [sO], hn, by omega, rfl, r_J6_init_9 ⟨rfl, r_J6_valueOf_8 ⟨⟨_, rfl, rfl⟩, q _ n4 ?_ ?_ ⟨⟨by show xI (xUpI w4 (xN w) 1 (nI 0)) (xN w) 2 = 0; rw [x_uI, if_neg (by omega)]; exact z4 2, by show xI (xUpI w4 (xN w) 1 (nI 0)) (xN w) 3 = 0; rw [x_uI, if_neg (by omega)]; exact z4 3⟩, by show (if xN w = xN w ∧ 0 = 0 then xN w2 else xR w4 (xN w) 0) = xN w + 1; rw [if_pos ⟨rfl, rfl⟩]; exact n1⟩⟩⟩⟩)⟩
  · have er : ∀ X : xw, xR X = (fun i k => if i = xN w ∧ k = 0 then xN w2 else xR w4 i k) → xR X (xN w) 0 = xN w2 := fun X hX => by rw [hX]; exact if_pos ⟨rfl, rfl⟩
    refine ⟨⟨by show (xS w4 (xN w)).1 = 18; rw [sO], by omega, by show xN w < xN w4; omega⟩, ?_, ⟨?_, ?_⟩, ?_, fun j hj => ?_, h128, hl⟩
    · show xI (xUpI w4 (xN w) 1 (nI 0)) (xN w) 1 = 0
      rw [x_uI, if_pos ⟨rfl, rfl⟩]; rfl
    · rw [er _ rfl]; omega
    · rw [er _ rfl]; show xN w2 < xN w4; omega
    · rw [er _ rfl]; exact sD
    · rw [er _ rfl]
      show xI (xUpI w4 (xN w) 1 (nI 0)) (xN w2) j = _
      rw [x_uI, if_neg (by omega)]; exact hd4 j hj
  · have kw : xk (fun _ => False) w w4 := xk_trans k1 k4
    refine ⟨kw.1, kw.2.1, fun i hi hn9 => ?_⟩
    obtain ⟨z1, z2, z3⟩ := kw.2.2 i hi hn9
    refine ⟨?_, z2, ?_⟩
    · funext j
      show xI (xUpI w4 (xN w) 1 (nI 0)) i j = _
      rw [x_uI, if_neg (by omega), z1]
    · funext j
      show (if i = xN w ∧ j = 0 then xN w2 else xR w4 i j) = _
      rw [if_neg (by omega), z3]
end
