/-! X: strings compared, found, hashed -/
section
variable {Q : Option Value → xw → Prop} {Qx : Nat → xw → Prop} {w : xw} {T : List Nat} {a : Nat}
theorem l_ext {A S : List Nat} (hl : A.length = S.length) (h : ∀ j, j < A.length → A.getD j 0 = S.getD j 0) : A = S := by
  refine List.ext_getElem hl (fun i h1 h2 => ?_)
  have := h i h1
  rw [List.getD_eq_getElem?_getD, List.getD_eq_getElem?_getD, List.getElem?_eq_getElem h1, List.getElem?_eq_getElem h2] at this
  exact this
theorem XStr_u {A S : List Nat} {o : Nat} (h : XStr A o w) (g : XStr S o w) : A = S := by
  have e := h.2.2.2.1.symm.trans g.2.2.2.1
  have el : A.length = S.length := (Prod.mk.inj e).2
  refine l_ext el (fun j hj => ?_)
  have e2 := (h.2.2.2.2.1 j hj).symm.trans (g.2.2.2.2.1 j (by omega))
  have m1 := h.2.2.2.2.2.1 _ (getD_mem hj)
  have m2 := g.2.2.2.2.2.1 _ (getD_mem (show j < S.length by omega))
  exact (n_eq (by omega) (by omega)).mp e2
theorem x_eqB {A S : List Nat} {p s : Nat} (ha : xS w p = (54, A.length)) (hs : xS w s = (54, S.length)) (ia : ∀ j, j < A.length → xI w p j = nI (A.getD j 0)) (is : ∀ j, j < S.length → xI w s j = nI (S.getD j 0)) (hA : A.length < 100000) (hS : S.length < 100000) (cA : ∀ c, c ∈ A → c < 128) (cS : ∀ c, c ∈ S → c < 128)
    (q : Q (some (.int (bI (decide (A = S))))) w) : V_J9_equals [.ref p, .ref s] w Q := by
  have loop : A.length = S.length → ∀ (m k : Nat), k + m = A.length → (∀ j, j < k → A.getD j 0 = S.getD j 0) → T_J9_equals Q 9 [some (.ref p), some (.ref s), some (.int (nI k))] [] w := by
    intro el m
    induction m with
    | zero =>
      intro k hk hj
      refine r_J9_equals_9 ?_
      rw [ha, hs, show Int32.ofNat A.length = nI A.length from rfl, n_le (by omega) (by omega)]
      rw [decide_eq_true (l_ext el (fun j h1 => hj j (by omega)))] at q
      exact ⟨⟨by dsimp only; omega, by dsimp only; omega⟩, fun _ => ⟨nr_1, q⟩, fun z => absurd (by omega) z⟩
    | succ m ih =>
      intro k hk hj
      refine r_J9_equals_9 ?_
      have m1 := cA _ (getD_mem (show k < A.length by omega))
      have m2 := cS _ (getD_mem (show k < S.length by omega))
      rw [ha, hs, show Int32.ofNat A.length = nI A.length from rfl, n_le (by omega) (by omega), n_tn (by omega), ia k (by omega), is k (by omega), n_eq (by omega) (by omega), show nI k + 1 = nI (k + 1) from n_add k 1]
      refine ⟨⟨by dsimp only; omega, by dsimp only; omega⟩, fun z => by omega, fun _ => ⟨rfl, (n_in (by omega)).mpr (by dsimp only; omega), rfl, (n_in (by omega)).mpr (by dsimp only; omega), fun z => ih (k + 1) (by omega) (fun j h1 => ?_), fun z => ⟨nr_0, ?_⟩⟩⟩
      · by_cases e : j = k
        · rw [e]; exact z
        · exact hj j (by omega)
      · rw [decide_eq_false (fun e => z (by rw [e]))] at q; exact q
  refine e_J9_equals (r_J9_equals_0 ?_)
  rw [ha, hs, show Int32.ofNat A.length = nI A.length from rfl, show Int32.ofNat S.length = nI S.length from rfl, n_eq (by omega) (by omega)]
  refine ⟨⟨by dsimp only; omega, by dsimp only; omega⟩, ⟨by dsimp only; omega, by dsimp only; omega⟩, fun z => ⟨nr_0, ?_⟩, fun z => loop (Decidable.not_not.mp z) A.length 0 (by omega) (fun j hj => by omega)⟩
  rw [decide_eq_false (fun e => z (by rw [e]))] at q; exact q
theorem x_eq {A S : List Nat} {p s : Nat} (hA : XStr A p w) (hS : XStr S s w) (hne : 256 ≤ p ∨ 256 ≤ s) (q : Q (some (.int (bI (decide (A = S))))) w) : V_J6_equals [.ref p, .ref s] w Q := by
  refine e_J6_equals (r_J6_equals_0 ⟨Or.inr hne, fun _ => ⟨hS.1.1, fun z => absurd z (by decide), fun _ => ⟨hS.1.1, fun z => absurd z (by decide), fun _ => ⟨hA.1.1, hS.1.1, fun z => absurd (hA.2.1.trans hS.2.1.symm) z, fun _ => ⟨hA.1.1, by have := hA.2.2.1; omega, hS.1.1, by have := hS.2.2.1; omega, ?_⟩⟩⟩⟩, fun e => ⟨nr_1, ?_⟩⟩)
  · refine x_eqB hA.2.2.2.1 hS.2.2.2.1 hA.2.2.2.2.1 hS.2.2.2.2.1 hA.2.2.2.2.2.2 hS.2.2.2.2.2.2 hA.2.2.2.2.2.1 hS.2.2.2.2.2.1 (r_J6_equals_47 ⟨fun z => ⟨nr_0, ?_⟩, fun z => ⟨nr_1, ?_⟩⟩)
    · rw [bI_e0 z] at q; exact q
    · rw [bI_n0 z] at q; exact q
  · subst e
    rw [decide_eq_true (XStr_u hA hS)] at q; exact q
/-- where in a row of Strings -/
def fdI (o : Option Nat) : Int32 := match o with
  | some k => nI k
  | none => -1
theorem x_find {S : List Nat} {s t n : Nat} {f : Nat → List Nat} (hS : XStr S s w) (hs : 256 ≤ s) (hn : n < 1000) (ht : xS w t = (57, n)) (hf : ∀ k, k < n → XStr (f k) (xR w t k) w) (q : Q (some (.int (fdI (fstP (fun k => decide (f k = S)) n)))) w) : V_X0_find [.ref s, .ref t] w Q := by
  refine e_X0_find (r_X0_find_0 ?_)
  have loop : ∀ (m k : Nat), k + m = n → (∀ j, j < k → decide (f j = S) = false) → T_X0_find Q 2 [some (.ref s), some (.ref t), some (.int (nI k))] [] w := by
    intro m
    induction m with
    | zero =>
      intro k hk hj
      refine r_X0_find_2 ?_
      rw [ht, show Int32.ofNat n = nI n from rfl, n_le (by omega) (by omega)]
      rw [fstP_none (fun u hu => hj u (by omega))] at q
      exact ⟨⟨by dsimp only; omega, by dsimp only; omega⟩, fun _ => ⟨trivial, q⟩, fun z => absurd (by omega) z⟩
    | succ m ih =>
      intro k hk hj
      refine r_X0_find_2 ?_
      have hk1 := hf k (by omega)
      rw [ht, show Int32.ofNat n = nI n from rfl, n_le (by omega) (by omega), n_tn (by omega)]
      refine ⟨⟨by dsimp only; omega, by dsimp only; omega⟩, fun z => by omega, fun _ => ⟨⟨by dsimp only; omega, by dsimp only; omega⟩, (n_in (by omega)).mpr (by dsimp only; omega), by have := hk1.1; omega, hk1.1.1, x_eq hk1 hS (Or.inr hs) (r_X0_find_15 ⟨fun z => ?_, fun z => ⟨trivial, ?_⟩⟩)⟩⟩
      · rw [show nI k + 1 = nI (k + 1) from n_add k 1]
        exact ih (k + 1) (by omega) (fun j h1 => by
          by_cases e : j = k
          · rw [e]; exact bI_e0 z
          · exact hj j (by omega))
      · rw [fstP_some (show k < n by omega) (bI_n0 z) hj] at q; exact q
  exact loop n 0 (by omega) (fun j hj => by omega)
/-- a String's hash -/
def hF (S : List Nat) : Int32 := S.foldl (fun h c => 31 * h + nI c) 0
theorem and255 : ∀ c, c < 128 → (nI c) &&& 255 = nI c := by decide +kernel
theorem take_s {S : List Nat} {k : Nat} (h : k < S.length) : S.take (k + 1) = S.take k ++ [S.getD k 0] := by
  rw [List.take_add_one, List.getD_eq_getElem?_getD, List.getElem?_eq_getElem h]; rfl
theorem x_hash9 {S : List Nat} {p : Nat} (ha : xS w p = (54, S.length)) (ia : ∀ j, j < S.length → xI w p j = nI (S.getD j 0)) (hl : S.length < 100000) (c8 : ∀ c, c ∈ S → c < 128) (q : Q (some (.int (hF S))) w) : V_J9_hashCode [.ref p] w Q := by
  refine e_J9_hashCode (r_J9_hashCode_0 ?_)
  rw [ha, show Int32.ofNat S.length = nI S.length from rfl, show (nI S.length = (0 : Int32)) ↔ S.length = 0 from n_eq (b := 0) (by omega) (by omega), show (nI S.length = (1 : Int32)) ↔ S.length = 1 from n_eq (b := 1) (by omega) (by omega)]
  refine ⟨⟨by dsimp only; omega, by dsimp only; omega⟩, fun z => r_J9_hashCode_51 ⟨trivial, ?_⟩, fun z => ⟨fun y => ⟨rfl, (n_in (a := 0) (by omega)).mpr (by dsimp only; omega), r_J9_hashCode_51 ⟨trivial, ?_⟩⟩, fun y => ⟨⟨by dsimp only; omega, by dsimp only; omega⟩, ?_⟩⟩⟩
  · rw [List.eq_nil_of_length_eq_zero z] at q; exact q
  · rw [show Int32.toNatClampNeg 0 = 0 from rfl, ia 0 (by omega), and255 _ (c8 _ (getD_mem (by omega)))]
    obtain ⟨c, e⟩ := List.length_eq_one_iff.mp y
    have e2 : hF S = nI (S.getD 0 0) := by rw [e]; show (31 : Int32) * 0 + nI c = nI c; rw [Int32.mul_zero, Int32.zero_add]
    rw [e2] at q; exact q
  · refine e_J11_vectorizedHashCode (r_J11_vectorizedHashCode_0 ⟨fun z => by revert z; decide, fun _ => ⟨by rw [ha], ?_⟩, fun z => absurd z (by decide), fun z => absurd z (by decide), fun z => absurd z (by decide), fun z => absurd z (by decide), fun z => absurd z (by decide), fun z => absurd z (by decide), trivial⟩)
    refine e_J11_signedHashCode (r_J11_signedHashCode_0 ?_)
    rw [show (0 : Int32) + nI S.length = nI S.length from Int32.zero_add _]
    have loop : ∀ (m k : Nat), k + m = S.length → ∀ {o2 o3 : Option Value}, T_J11_signedHashCode (fun v w1 => T_J11_vectorizedHashCode (fun v w1 => T_J9_hashCode Q 51 [some (.ref p)] (v.toList ++ []) w1) 54 [some (.ref p), some (.int 0), some (.int (nI S.length)), some (.int 0), some (.int 4)] (v.toList ++ []) w1) 8 [some (.int (hF (S.take k))), some (.ref p), o2, o3, some (.int (nI S.length)), some (.int (nI k))] [] w := by
      intro m
      induction m with
      | zero =>
        intro k hk o2 o3
        refine r_J11_signedHashCode_8 ?_
        rw [n_le (by omega) (by omega), List.take_of_length_le (by omega)]
        exact ⟨fun _ => ⟨trivial, r_J11_vectorizedHashCode_54 ⟨trivial, r_J9_hashCode_51 ⟨trivial, q⟩⟩⟩, fun z => absurd (by omega) z⟩
      | succ m ih =>
        intro k hk o2 o3
        refine r_J11_signedHashCode_8 ?_
        have m1 := c8 _ (getD_mem (show k < S.length by omega))
        rw [ha, n_le (by omega) (by omega), n_tn (by omega), ia k (by omega), and255 _ m1, show nI k + 1 = nI (k + 1) from n_add k 1]
        have e : hF (S.take (k + 1)) = 31 * hF (S.take k) + nI (S.getD k 0) := by
          unfold hF; rw [take_s (by omega), List.foldl_append]; rfl
        rw [← e]
        exact ⟨fun z => by omega, fun _ => ⟨rfl, (n_in (by omega)).mpr (by dsimp only; omega), ih (k + 1) (by omega)⟩⟩
    exact loop S.length 0 (by omega)
theorem x_hash {S : List Nat} {o : Nat} (h : XStr S o w) (ho : 256 ≤ o) (h2 : xI w o 2 = 0 ∧ xI w o 3 = 0) (q : ∀ j v, j = 2 ∨ j = 3 → Q (some (.int (hF S))) (xUpI w o j v)) : V_J6_hashCode [.ref o] w Q := by
  refine e_J6_hashCode (r_J6_hashCode_0 ⟨h.1.1, fun z => absurd h2.1 z, fun _ => ⟨h.1.1, fun z => absurd h2.2 z, fun _ => ⟨h.1.1, e_J6_isLatin1 (r_J6_isLatin1_0 ⟨fun z => absurd z (by decide), fun _ => ⟨h.1.1, fun z => absurd h.2.1 z, fun _ => ⟨nr_1, r_J6_hashCode_20 ⟨fun z => absurd z (by decide), fun _ => ⟨h.1.1, by have := h.2.2.1; omega, ?_⟩⟩⟩⟩⟩)⟩⟩⟩)
  exact x_hash9 h.2.2.2.1 h.2.2.2.2.1 h.2.2.2.2.2.2 h.2.2.2.2.2.1 (r_J6_hashCode_30 (r_J6_hashCode_40 ⟨fun _ => ⟨h.1.1, ho, trivial, q 2 _ (Or.inl rfl)⟩, fun _ => ⟨h.1.1, ho, ⟨rfl, rfl⟩, trivial, q 3 _ (Or.inr rfl)⟩⟩))
theorem x_length {S : List Nat} {o : Nat} (h : XStr S o w) (q : Q (some (.int (nI S.length))) w) : V_J6_length [.ref o] w Q := by
  refine e_J6_length (r_J6_length_0 ?_)
  have e := h.2.2.2.1
  rw [e]
  refine ⟨h.1.1, by have := h.2.2.1; omega, ⟨by dsimp only; omega, by dsimp only; omega⟩, h.1.1, e_J6_coder (r_J6_coder_0 ⟨fun z => absurd z (by decide), fun _ => ⟨h.1.1, by rw [h.2.1]; rfl, r_J6_length_9 ⟨trivial, ?_⟩⟩⟩)⟩
  rw [h.2.1, show Int32.ofNat S.length >>> ((0 : Int32) &&& 31) = nI S.length from shr0 _]
  exact q
end
