/-! X: lists that grow -/
section
variable {Q : Option Value → xw → Prop} {w : xw}
theorem xS_sB (w : xw) (b : Nat × Nat) : xS (xSetB w b) = xS w := rfl
theorem xN_sB (w : xw) (b : Nat × Nat) : xN (xSetB w b) = xN w := rfl
theorem xI_sB (w : xw) (b : Nat × Nat) : xI (xSetB w b) = xI w := rfl
theorem xL_sB (w : xw) (b : Nat × Nat) : xL (xSetB w b) = xL w := rfl
theorem xR_sB (w : xw) (b : Nat × Nat) : xR (xSetB w b) = xR w := rfl
theorem xB_sB (w : xw) (b : Nat × Nat) : xB (xSetB w b) = b := rfl
theorem x_uRR (w : xw) (a k v : Nat) (i j : Nat) : xR (xUpR w a k v) i j = if i = a ∧ j = k then v else xR w i j := rfl
/-- cells are made, old ones keep their shapes, and but for some their contents -/
def xk (E : Nat → Prop) (w w' : xw) : Prop := xN w ≤ xN w' ∧ (∀ i, i < xN w → xS w' i = xS w i) ∧ ∀ i, i < xN w → ¬ E i → xI w' i = xI w i ∧ xL w' i = xL w i ∧ xR w' i = xR w i
theorem xk_refl (E : Nat → Prop) (w : xw) : xk E w w := ⟨Nat.le_refl _, fun _ _ => rfl, fun _ _ _ => ⟨rfl, rfl, rfl⟩⟩
theorem xk_trans {E : Nat → Prop} {w w1 w2 : xw} (h : xk E w w1) (g : xk E w1 w2) : xk E w w2 :=
  ⟨Nat.le_trans h.1 g.1, fun i hi => (g.2.1 i (Nat.lt_of_lt_of_le hi h.1)).trans (h.2.1 i hi), fun i hi hn => by
    obtain ⟨a1, a2, a3⟩ := h.2.2 i hi hn
    obtain ⟨b1, b2, b3⟩ := g.2.2 i (Nat.lt_of_lt_of_le hi h.1) hn
    exact ⟨b1.trans a1, b2.trans a2, b3.trans a3⟩⟩
theorem xk_wk {E F : Nat → Prop} {w w1 : xw} (h : xk E w w1) (g : ∀ i, i < xN w → E i → F i) : xk F w w1 := ⟨h.1, h.2.1, fun i hi hn => h.2.2 i hi (fun z => hn (g i hi z))⟩
theorem xk_sB {E : Nat → Prop} {w w1 : xw} (h : xk E w w1) (b : Nat × Nat) : xk E w (xSetB w1 b) := h
theorem xk_uI {E : Nat → Prop} {w w1 : xw} (h : xk E w w1) {a k : Nat} {v : Int32} (ha : E a ∨ xN w ≤ a) : xk E w (xUpI w1 a k v) := ⟨h.1, h.2.1, fun i hi hn => by
  have : i ≠ a := fun z => by
    subst z
    rcases ha with ha | ha
    · exact hn ha
    · omega
  obtain ⟨a1, a2, a3⟩ := h.2.2 i hi hn
  obtain ⟨b1, b2, b3⟩ := xUpI_ne w1 a k v i this
  exact ⟨b1.trans a1, b2.trans a2, b3.trans a3⟩⟩
theorem xk_uR {E : Nat → Prop} {w w1 : xw} (h : xk E w w1) {a k v : Nat} (ha : E a ∨ xN w ≤ a) : xk E w (xUpR w1 a k v) := ⟨h.1, h.2.1, fun i hi hn => by
  have : i ≠ a := fun z => by
    subst z
    rcases ha with ha | ha
    · exact hn ha
    · omega
  obtain ⟨a1, a2, a3⟩ := h.2.2 i hi hn
  obtain ⟨b1, b2, b3⟩ := xUpR_ne w1 a k v i this
  exact ⟨b1.trans a1, b2.trans a2, b3.trans a3⟩⟩
theorem n1_S {sh : Nat × Nat} {c i : Nat} (h : i ≠ xN w) : xS (xNew1 w sh c) i = xS w i := if_neg h
theorem n1_S0 {sh : Nat × Nat} {c : Nat} : xS (xNew1 w sh c) (xN w) = sh := if_pos rfl
theorem n1_R {sh : Nat × Nat} {c i : Nat} (h : i ≠ xN w) : xR (xNew1 w sh c) i = xR w i := by funext j; exact if_neg h
theorem n1_R0 {sh : Nat × Nat} {c j : Nat} : xR (xNew1 w sh c) (xN w) j = 0 := if_pos rfl
theorem n1_I {sh : Nat × Nat} {c i : Nat} (h : i ≠ xN w) : xI (xNew1 w sh c) i = xI w i := by funext j; exact if_neg h
theorem n1_I0 {sh : Nat × Nat} {c j : Nat} : xI (xNew1 w sh c) (xN w) j = 0 := if_pos rfl
theorem n1_L {sh : Nat × Nat} {c i : Nat} (h : i ≠ xN w) : xL (xNew1 w sh c) i = xL w i := by funext j; exact if_neg h
theorem n1_N {sh : Nat × Nat} {c : Nat} : xN (xNew1 w sh c) = xN w + 1 := rfl
theorem xk_n1 {E : Nat → Prop} {w w1 : xw} (h : xk E w w1) (sh : Nat × Nat) (c : Nat) : xk E w (xNew1 w1 sh c) :=
  xk_trans h ⟨Nat.le_succ _, fun i hi => n1_S (by omega), fun i hi _ => ⟨n1_I (by omega), n1_L (by omega), n1_R (by omega)⟩⟩
theorem x_max {a b : Nat} (ha : a < 2147483648) (hb : b < 2147483648) (q : Q (some (.int (nI (max a b)))) w) : V_J10_max [.int (nI a), .int (nI b)] w Q := by
  refine e_J10_max (r_J10_max_0 ?_)
  rw [n_lt ha hb]
  refine ⟨fun c => ⟨trivial, ?_⟩, fun c => ⟨trivial, ?_⟩⟩
  · rw [Nat.max_eq_right (by omega)] at q; exact q
  · rw [Nat.max_eq_left (by omega)] at q; exact q
theorem x_min {a b : Nat} (ha : a < 2147483648) (hb : b < 2147483648) (q : Q (some (.int (nI (min a b)))) w) : V_J10_min [.int (nI a), .int (nI b)] w Q := by
  refine e_J10_min (r_J10_min_0 ?_)
  rw [n_lt hb ha]
  refine ⟨fun c => ⟨trivial, ?_⟩, fun c => ⟨trivial, ?_⟩⟩
  · rw [Nat.min_eq_right (by omega)] at q; exact q
  · rw [Nat.min_eq_left (by omega)] at q; exact q
theorem x_newLength {n a b : Nat} (h0 : 1 ≤ n + max a b) (h1 : n + max a b ≤ 2000000) (q : Q (some (.int (nI (n + max a b)))) w) : V_J11_newLength [.int (nI n), .int (nI a), .int (nI b)] w Q := by
  have ma : a ≤ max a b := Nat.le_max_left a b
  have mb' : b ≤ max a b := Nat.le_max_right a b
  refine e_J11_newLength (r_J11_newLength_0 (x_max (by omega) (by omega) (r_J11_newLength_6 ?_)))
  rw [n_add, show (nI (n + max a b) ≤ (0 : Int32)) ↔ n + max a b ≤ 0 from n_le (b := 0) (by omega) (by omega), show ((2147483639 : Int32) < nI (n + max a b)) ↔ 2147483639 < n + max a b from n_lt (a := 2147483639) (by omega) (by omega)]
  exact ⟨fun z => by omega, fun _ => ⟨fun z => by omega, fun _ => ⟨trivial, q⟩⟩⟩
/-- an Object[] is copied into a greater one -/
def cpR (w : xw) (A cap m : Nat) (w' : xw) : Prop := xN w' = xN w + 1 ∧ xS w' (xN w) = (55, m) ∧ (∀ j, j < cap → xR w' (xN w) j = xR w A j) ∧ (∀ j, cap ≤ j → xR w' (xN w) j = 0) ∧ xk (fun _ => False) w w'
theorem x_copyOf {A cap m : Nat} (hA : A < xN w) (hS : xS w A = (55, cap)) (hn : 256 ≤ xN w) (hm : cap ≤ m) (hm2 : m ≤ 2000000) (hb : 1 ≤ (xB w).1 ∧ m ≤ (xB w).2) (hel : ∀ j, j < cap → xR w A j = 0 ∨ (xIsO w (xR w A j) ∧ xR w A j < xN w)) (q : ∀ w', cpR w A cap m w' → Q (some (.ref (xN w))) w') : V_J13_copyOf [.ref A, .int (nI m)] w Q := by
  have hS1 : (xS w A).1 = 55 := by rw [hS]
  have hS2 : (xS w A).2 = cap := by rw [hS]
  refine e_J13_copyOf (r_J13_copyOf_0 ⟨⟨hS1, Nat.le_of_ble_eq_true rfl⟩, r_J13_copyOf_6 ⟨(xB w).1, (xB w).2, ⟨Nat.le_refl _, Nat.le_refl _⟩, e_J13_copyOf_2 (r_J13_copyOf_2_0 ⟨Or.inl rfl, fun z => absurd rfl z, fun _ => ?_⟩)⟩⟩)
  rw [n_tn (by omega)]
  have eA : xS (xNew1 (xSetB w ((xB w).1, (xB w).2)) (55, m) m) A = (55, cap) := (n1_S (w := xSetB w ((xB w).1, (xB w).2)) (by rw [xN_sB]; omega)).trans hS
  have hnl : ¬ (nI m < (0 : Int32)) := by rw [show (nI m < (0 : Int32)) ↔ m < 0 from n_lt (b := 0) (by omega) (by omega)]; omega
  have h0 : ¬ ((0 : Int32) < 0) := by decide
  rw [eA]
  refine ⟨⟨hnl, hb.1, hb.2, by omega⟩, ⟨by omega, by omega⟩, x_min (a := cap) (by omega) (by omega) (r_J13_copyOf_2_35 ?_)⟩
  rw [Nat.min_eq_left hm, n_tn (by omega), show Int32.toNatClampNeg 0 = 0 from by decide, eA]
  have eN : xS (xNew1 (xSetB w ((xB w).1, (xB w).2)) (55, m) m) (xN (xSetB w ((xB w).1, (xB w).2))) = (55, m) := n1_S0
  rw [eN]
  have eR : xR (xNew1 (xSetB w ((xB w).1, (xB w).2)) (55, m) m) A = xR w A := n1_R (w := xSetB w ((xB w).1, (xB w).2)) (by rw [xN_sB]; omega)
  rw [eR]
  have hnc : ¬ (nI cap < (0 : Int32)) := by rw [show (nI cap < (0 : Int32)) ↔ cap < 0 from n_lt (b := 0) (by omega) (by omega)]; omega
  refine ⟨⟨rfl, rfl, hn, Nat.le_of_ble_eq_true rfl⟩, ⟨h0, h0, hnc, by dsimp only; omega, by dsimp only; omega⟩, fun j hj => ?_, r_J13_copyOf_2_38 ⟨⟨_, rfl, rfl⟩, r_J13_copyOf_9 ⟨⟨_, rfl, rfl⟩, q _ ?_⟩⟩⟩
  · rw [Nat.zero_add]
    rcases hel j hj with h | h
    · exact Or.inl h
    · refine Or.inr ?_
      unfold xIsO
      rw [n1_S (w := xSetB w ((xB w).1, (xB w).2)) (by rw [xN_sB]; omega)]
      exact h.1
  · have ec : ∀ j, xR (xCpR (xNew1 (xSetB w ((xB w).1, (xB w).2)) (55, m) m) (xN w) 0 A 0 cap) (xN w) j = if j < cap then xR w A j else 0 := fun j => by
      show (if xN w = xN w then va_cpy (xR (xNew1 (xSetB w ((xB w).1, (xB w).2)) (55, m) m) A) (xR (xNew1 (xSetB w ((xB w).1, (xB w).2)) (55, m) m) (xN w)) 0 0 cap j else _) = _
      rw [if_pos rfl, eR]
      unfold va_cpy
      by_cases c : j < cap
      · rw [if_pos ⟨Nat.zero_le _, by omega⟩, if_pos c]; congr 1; omega
      · rw [if_neg (by omega), if_neg c]; exact n1_R0 (w := xSetB w ((xB w).1, (xB w).2))
    refine ⟨rfl, eN, fun j hj => ?_, fun j hj => ?_, ?_⟩
    · have := ec j; rw [if_pos hj] at this; exact this
    · have := ec j; rw [if_neg (by omega)] at this; exact this
    · have k1 : xk (fun _ => False) w (xNew1 (xSetB w ((xB w).1, (xB w).2)) (55, m) m) := xk_n1 (xk_sB (xk_refl _ w) _) _ _
      refine ⟨k1.1, k1.2.1, fun i hi hn2 => ?_⟩
      obtain ⟨c1, c2, c3⟩ := k1.2.2 i hi hn2
      refine ⟨c1, c2, ?_⟩
      rw [← c3]
      funext j
      show (if i = xN w then _ else _) = _
      rw [if_neg (by omega)]
/-- a list: its objects, its array, how much that holds -/
def XLa (L : List Nat) (l A cap : Nat) (w : xw) : Prop := ((xS w l).1 = 17 ∧ 256 ≤ l ∧ l < xN w) ∧ xI w l 2 = nI L.length ∧ (xR w l 1 = A ∧ 256 ≤ A ∧ A < xN w ∧ A ≠ l) ∧ xS w A = (55, cap) ∧ (L.length ≤ cap ∧ 2 ≤ cap ∧ cap ≤ 100000) ∧ (∀ j, j < L.length → xR w A j = L.getD j 0) ∧ ∀ v, v ∈ L → xIsO w v ∧ v < xN w
theorem x_grow {L : List Nat} {l A cap : Nat} (h : XLa L l A cap w) (hc : L.length = cap) (hb : 1 ≤ (xB w).1 ∧ cap + max 1 (cap / 2) ≤ (xB w).2) (q : ∀ w' m, m = cap + max 1 (cap / 2) → cpR w A cap m w' → ∀ b, Q (some (.ref (xN w))) (xSetB (xUpR w' l 1 (xN w)) b)) : V_J2_grow [.ref l] w Q := by
  obtain ⟨⟨h1, h2, h3⟩, h4, ⟨h5, h6, h7, h8⟩, h9, ⟨i1, i2, i3⟩, i4, i5⟩ := h
  have hmx : max 1 (cap / 2) ≤ cap := by omega
  have e1 : nI L.length + 1 = nI (cap + 1) := by rw [hc]; exact n_add cap 1
  refine e_J2_grow (r_J2_grow_0 ⟨h1, (xB w).1, (xB w).2, ⟨Nat.le_refl _, Nat.le_refl _⟩, h1, ?_⟩)
  rw [h4, e1]
  refine e_J2_grow_2 (r_J2_grow_2_0 ?_)
  rw [xS_sB, xR_sB, h5, h9]
  have hd : nI (cap + 1) - Int32.ofNat cap = nI 1 := by
    rw [show Int32.ofNat cap = nI cap from rfl, n_sub (by omega)]; congr 1; omega
  have hs : Int32.ofNat cap >>> ((1 : Int32) &&& 31) = nI (cap / 2) := by
    have k := pk_shrN (n := cap) (by omega) ((1 : Int32) &&& 31) 1 (by decide)
    rw [Nat.pow_one] at k
    exact k
  rw [hd, hs]
  have h0 : (0 : Int32) < Int32.ofNat cap := by
    rw [show ((0 : Int32) < Int32.ofNat cap) ↔ 0 < cap from n_lt (a := 0) (b := cap) (by omega) (by omega)]; omega
  refine ⟨h1, by omega, ⟨by dsimp only; omega, by dsimp only; omega⟩, fun _ => ⟨0, 0, ⟨Nat.zero_le _, Nat.zero_le _⟩, x_newLength (n := cap) (by omega) (by omega) (r_J2_grow_2_30 ?_)⟩, fun z => absurd h0 z⟩
  refine ⟨h1, by show xR w l 1 ≠ 0; omega, 1, cap + max 1 (cap / 2), ⟨by show 1 ≤ (xB w).1 - 0; omega, by show _ ≤ (xB w).2 - 0; omega⟩, ?_⟩
  show V_J13_copyOf [.ref (xR w l 1), _] _ _
  rw [h5]
  refine x_copyOf (A := A) (cap := cap) (m := cap + max 1 (cap / 2)) h7 h9 (by show 256 ≤ xN w; omega) (by omega) (by omega) ⟨Nat.le_refl _, Nat.le_refl _⟩ (fun j hj => ?_) (fun w' c' => r_J2_grow_2_40 ⟨?_, h2, by show xN w ≠ 0; omega, ⟨_, rfl, rfl⟩, r_J2_grow_10 ⟨⟨_, rfl, rfl⟩, ?_⟩⟩)
  · right
    have : xR w A j = L.getD j 0 := i4 j (by omega)
    have hm := i5 _ (getD_mem (show j < L.length by omega))
    show xIsO w (xR w A j) ∧ xR w A j < xN w
    rw [this]; exact hm
  · show (xS w' l).1 = 17
    rw [c'.2.2.2.2.2.1 l h3]; exact h1
  · exact q w' _ rfl c' _
theorem XLa_k {L : List Nat} {l A cap : Nat} {E : Nat → Prop} {w' : xw} (h : XLa L l A cap w) (k : xk E w w') (h1 : ¬ E l) (h2 : ¬ E A) : XLa L l A cap w' := by
  obtain ⟨⟨h1', h2', h3⟩, h4, ⟨h5, h6, h7, h8⟩, h9, i1, i4, i5⟩ := h
  obtain ⟨a1, a2, a3⟩ := k.2.2 l h3 h1
  obtain ⟨b1, b2, b3⟩ := k.2.2 A h7 h2
  have kn := k.1
  exact ⟨⟨by rw [k.2.1 l h3]; exact h1', h2', by omega⟩, by rw [a1]; exact h4, ⟨by rw [a3]; exact h5, h6, by omega, h8⟩, by rw [k.2.1 A h7]; exact h9, i1, fun j hj => by rw [b3]; exact i4 j hj, fun v hv => ⟨by
    unfold xIsO
    rw [k.2.1 v (i5 v hv).2]; exact (i5 v hv).1, by have := (i5 v hv).2; omega⟩⟩
/-- what add leaves -/
def adR (L : List Nat) (l A cap v : Nat) (w w' : xw) : Prop := ∃ A' cap', XLa (L ++ [v]) l A' cap' w' ∧ xk (fun i => i = l ∨ i = A) w w' ∧ xN w' ≤ xN w + 1 ∧ (A' = A ∨ A' = xN w) ∧ (cap' = cap ∨ cap' = cap + max 1 (cap / 2)) ∧ xL w' l = xL w l ∧ (∀ j, j ≠ 0 → j ≠ 2 → xI w' l j = xI w l j) ∧ (∀ j, j ≠ 1 → xR w' l j = xR w l j)
theorem getD_app (L : List Nat) (v : Nat) : (L ++ [v]).getD L.length 0 = v := by simp
theorem getD_app2 (L : List Nat) (v j : Nat) (h : j < L.length) : (L ++ [v]).getD j 0 = L.getD j 0 := by
  rw [List.getD_eq_getElem?_getD, List.getD_eq_getElem?_getD, List.getElem?_append_left h]
theorem x_add {L : List Nat} {l A cap v : Nat} (h : XLa L l A cap w) (hv : xIsO w v) (hvn : v < xN w) (hL : L.length ≤ 50000) (hb : L.length = cap → 1 ≤ (xB w).1 ∧ cap + max 1 (cap / 2) ≤ (xB w).2) (q : ∀ w', adR L l A cap v w w' → Q (some (.int (nI 1))) w') : V_J2_add [.ref l, .ref v] w Q := by
  obtain ⟨⟨h1, h2, h3⟩, h4, ⟨h5, h6, h7, h8⟩, h9, ⟨i1, i2, i3⟩, i4, i5⟩ := id h
  have r1 : xR (xUpI w l 0 (xI w l 0 + 1)) l 1 = A := h5
  have r2 : xI (xUpI w l 0 (xI w l 0 + 1)) l 2 = nI L.length := by rw [x_uI, if_neg (by omega)]; exact h4
  refine e_J2_add (r_J2_add_0 ⟨h1, h1, h2, h1, by rw [r1]; omega, h1, (xB w).1, (xB w).2, ⟨Nat.le_refl _, Nat.le_refl _⟩, h1, ?_⟩)
  rw [r1, r2]
  generalize hw1 : xSetB (xUpI w l 0 (xI w l 0 + 1)) ((xB w).1, (xB w).2) = w1
  have k1 : xk (fun i => i = l) w w1 := by rw [← hw1]; exact xk_sB (xk_uI (E := fun i => i = l) (xk_refl _ w) (Or.inl (show l = l from rfl))) _
  have n1 : xN w1 = xN w := by rw [← hw1]; rfl
  have s1 : xS w1 = xS w := by rw [← hw1]; rfl
  have rr1 : xR w1 = xR w := by rw [← hw1]; rfl
  have ll1 : xL w1 = xL w := by rw [← hw1]; rfl
  have ii1 : ∀ i j, ¬ (i = l ∧ j = 0) → xI w1 i j = xI w i j := fun i j hn => by rw [← hw1]; exact if_neg hn
  have b1 : xB w1 = xB w := by rw [← hw1]; rfl
  have XL1 : XLa L l A cap w1 := ⟨⟨by rw [s1]; exact h1, h2, by omega⟩, by rw [ii1 l 2 (by omega)]; exact h4, ⟨by rw [rr1]; exact h5, h6, by omega, h8⟩, by rw [s1]; exact h9, ⟨i1, i2, i3⟩, fun j hj => by rw [rr1]; exact i4 j hj, fun u hu => ⟨by unfold xIsO; rw [s1]; exact (i5 u hu).1, by rw [n1]; exact (i5 u hu).2⟩⟩
  have fin : ∀ (w2 : xw) (b : Nat × Nat), adR L l A cap v w w2 → T_J2_add Q 23 [some (.ref l), some (.ref v)] [] (xSetB w2 b) := fun w2 b ha => r_J2_add_23 ⟨nr_1, q _ ha⟩
  have ek : nI L.length + 1 = nI (L.length + 1) := n_add _ 1
  refine e_J2_add_2 (r_J2_add_2_0 ?_)
  rw [s1, h9, show (nI L.length = Int32.ofNat cap) ↔ L.length = cap from n_eq (by omega) (by omega), ek, n_tn (by omega)]
  refine ⟨⟨by dsimp only; omega, by dsimp only; omega⟩, fun c => ⟨⟨rfl, h6, by unfold xIsO; rw [s1]; exact hv, (n_in (by omega)).mpr (by dsimp only; omega)⟩, by show (xS w1 l).1 = 17; rw [s1]; exact h1, h2, rfl, fin _ _ ?_⟩, fun c => ?_⟩
  · -- there is room
    refine ⟨A, cap, ⟨⟨by show (xS w1 l).1 = 17; rw [s1]; exact h1, h2, by show l < xN w1; omega⟩, ?_, ⟨?_, h6, by show A < xN w1; omega, h8⟩, by show xS w1 A = _; rw [s1]; exact h9, ⟨by rw [List.length_append, List.length_singleton]; omega, i2, i3⟩, fun j hj => ?_, fun u hu => ?_⟩, ?_, by show xN w1 ≤ _; omega, Or.inl rfl, Or.inl rfl, ?_, fun j hj0 hj2 => ?_, fun j hj => ?_⟩
    · rw [x_uI, if_pos ⟨rfl, rfl⟩, List.length_append, List.length_singleton]
    · show xR (xUpR w1 A L.length v) l 1 = A
      rw [x_uRR, if_neg (by omega), rr1]; exact h5
    · show xR (xUpR w1 A L.length v) A j = _
      rw [List.length_append, List.length_singleton] at hj
      rw [x_uRR]
      by_cases e : j = L.length
      · rw [if_pos ⟨rfl, e⟩, e, getD_app]
      · rw [if_neg (by omega), rr1, getD_app2 L v j (by omega)]; exact i4 j (by omega)
    · have h9' : xIsO w u ∧ u < xN w := by
        rcases List.mem_append.mp hu with g | g
        · exact i5 u g
        · rw [List.mem_singleton.mp g]; exact ⟨hv, hvn⟩
      refine ⟨?_, by show u < xN w1; omega⟩
      show 1 ≤ (xS w1 u).1 ∧ (xS w1 u).1 ≤ 19
      rw [s1]; exact h9'.1
    · exact xk_uI (E := fun i => i = l ∨ i = A) (xk_uR (E := fun i => i = l ∨ i = A) (xk_wk k1 (fun i _ z => Or.inl z)) (Or.inl (Or.inr rfl))) (Or.inl (Or.inl rfl))
    · show xL w1 l = xL w l
      rw [ll1]
    · rw [x_uI, if_neg (by omega)]
      show xI w1 l j = _
      exact ii1 l j (by omega)
    · show xR (xUpR w1 A L.length v) l j = _
      rw [x_uRR, if_neg (by omega), rr1]
  · -- it grows
    have c := Decidable.not_not.mp c
    obtain ⟨hb1, hb2⟩ := hb c
    refine ⟨(xB w1).1, (xB w1).2, ⟨Nat.le_refl _, Nat.le_refl _⟩, by show (xS w1 l).1 = 17; rw [s1]; exact h1, x_grow (w := xSetB w1 ((xB w1).1, (xB w1).2)) (L := L) (A := A) (cap := cap) XL1 c ⟨by show 1 ≤ (xB w1).1; rw [b1]; exact hb1, by show _ ≤ (xB w1).2; rw [b1]; exact hb2⟩ (fun w2 m hm c2 b9 => r_J2_add_2_10 ?_)⟩
    obtain ⟨g1, g2, g3, g4, g5⟩ := c2
    have g1 : xN w2 = xN w + 1 := by rw [← n1]; exact g1
    have g2 : xS w2 (xN w) = (55, m) := by rw [← n1]; exact g2
    have g3 : ∀ j, j < cap → xR w2 (xN w) j = xR w A j := fun j hj => by have := g3 j hj; rw [xN_sB, n1, xR_sB, rr1] at this; exact this
    have g5 : xk (fun _ => False) w1 w2 := g5
    have mlt : m ≤ 2 * cap := by omega
    rw [ek, n_tn (by omega), show xN (xSetB w1 ((xB w1).1, (xB w1).2)) = xN w from n1]
    have sw : ∀ i, i < xN w → xS w2 i = xS w i := fun i hi => by rw [g5.2.1 i (by omega), s1]
    refine ⟨⟨by show (xS w2 (xN w)).1 = 55; rw [g2], by omega, ?_, ?_⟩, by show (xS w2 l).1 = 17; rw [sw l h3]; exact h1, h2, rfl, fin _ _ ?_⟩
    · show 1 ≤ (xS w2 v).1 ∧ (xS w2 v).1 ≤ 19
      rw [sw v hvn]; exact hv
    · show vp_in (nI L.length) (xS w2 (xN w)).2
      rw [g2]; exact (n_in (by omega)).mpr (by dsimp only; omega)
    · refine ⟨xN w, m, ⟨⟨by show (xS w2 l).1 = 17; rw [sw l h3]; exact h1, h2, by show l < xN w2; omega⟩, ?_, ⟨?_, by omega, by show xN w < xN w2; omega, by omega⟩, by show xS w2 (xN w) = _; exact g2, ⟨by rw [List.length_append, List.length_singleton]; omega, by omega, by omega⟩, fun j hj => ?_, fun u hu => ?_⟩, ?_, by show xN w2 ≤ _; omega, Or.inr rfl, Or.inr hm, ?_, fun j hj0 hj2 => ?_, fun j hj => ?_⟩
      · rw [x_uI, if_pos ⟨rfl, rfl⟩, List.length_append, List.length_singleton]
      · show xR (xUpR (xUpR w2 l 1 (xN w)) (xN w) L.length v) l 1 = _
        rw [x_uRR, if_neg (by omega), x_uRR, if_pos ⟨rfl, rfl⟩]
      · show xR (xUpR (xUpR w2 l 1 (xN w)) (xN w) L.length v) (xN w) j = _
        rw [List.length_append, List.length_singleton] at hj
        rw [x_uRR]
        by_cases e : j = L.length
        · rw [if_pos ⟨rfl, e⟩, e, getD_app]
        · rw [if_neg (by omega), x_uRR, if_neg (by omega), g3 j (by omega), getD_app2 L v j (by omega)]; exact i4 j (by omega)
      · have h9' : xIsO w u ∧ u < xN w := by
          rcases List.mem_append.mp hu with g | g
          · exact i5 u g
          · rw [List.mem_singleton.mp g]; exact ⟨hv, hvn⟩
        refine ⟨?_, by show u < xN w2; omega⟩
        show 1 ≤ (xS w2 u).1 ∧ (xS w2 u).1 ≤ 19
        rw [sw u h9'.2]; exact h9'.1
      · have k2 : xk (fun i => i = l ∨ i = A) w w2 := xk_trans (xk_wk k1 (fun i _ z => Or.inl z)) (xk_wk g5 (fun i _ z => z.elim))
        exact xk_uI (E := fun i => i = l ∨ i = A) (xk_uR (E := fun i => i = l ∨ i = A) (xk_sB (xk_uR (E := fun i => i = l ∨ i = A) k2 (Or.inl (Or.inl rfl))) _) (Or.inr (Nat.le_refl _))) (Or.inl (Or.inl rfl))
      · show xL w2 l = xL w l
        rw [(g5.2.2 l (by omega) (fun z => z)).2.1, ll1]
      · rw [x_uI, if_neg (by omega)]
        show xI w2 l j = _
        rw [(g5.2.2 l (by omega) (fun z => z)).1]; exact ii1 l j (by omega)
      · show xR (xUpR (xUpR w2 l 1 (xN w)) (xN w) L.length v) l j = _
        rw [x_uRR, if_neg (by omega), x_uRR, if_neg (by omega), (g5.2.2 l (by omega) (fun z => z)).2.2, rr1]
end
