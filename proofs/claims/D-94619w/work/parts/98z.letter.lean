/-! letters of a kind's name, BorderStonesModel -/
section
variable {Q : Option Value → mw → Prop} {M : mw}
def letR (K : List (List Nat × Nat × Nat)) (a b : Int32) : Int32 := if (0 ≤ a.toInt ∧ a.toInt < K.length) ∧ 0 ≤ b.toInt ∧ b.toInt ≤ 5 then nI ((K.getD a.toInt.toNat ([], 0, 0)).1.getD b.toInt.toNat 0) else -1
theorem nmR_div {c : Nat} {l : List Nat} (h : c < 27) : nmR (c :: l) / 27 = nmR l := by
  have e : nmR (c :: l) = 27 * nmR l + c := rfl
  omega
theorem nmR_pos {c : Nat} {l : List Nat} (h : 1 ≤ c) : 0 < nmR (c :: l) := by
  have e : nmR (c :: l) = 27 * nmR l + c := rfl
  omega
theorem s_letter {K : List (List Nat × Nat × Nat)} {B : Bd} (hK : K.length ≤ 5) (hB : MB B M) (hb : bK B = K.length) (hk : MKd 5 K M) (hn : ∀ q, q ∈ K → nmOk q.1) (a b : Int32) (q : Q (some (.int (letR K a b))) M) : V_letter [.ref 0, .int a, .int b] M Q := by
  unfold letR at q
  refine e_letter (r_letter_0 (s_isKind (B := B) (by omega) hB a (r_letter_5 ⟨fun c => ⟨trivial, ?_⟩, fun c => ?_⟩)))
  · have c := bI_e0 c
    have c : ¬ (0 ≤ a.toInt ∧ a.toInt < bK B) := by simpa using c
    rw [if_neg (fun z => c (by rw [hb]; exact z.1))] at q; exact q
  have c := bI_n0 c
  have c : 0 ≤ a.toInt ∧ a.toInt < bK B := by simpa using c
  rw [hb] at c
  refine s_isIn32 b 0 5 (r_letter_17 ⟨fun c2 => ?_, fun c2 => ⟨trivial, ?_⟩⟩)
  rotate_left
  · have c2 := bI_e0 (Decidable.not_not.mp c2)
    rw [decide_eq_false_iff_not] at c2
    rw [if_neg (fun z => c2 ⟨by rw [show (0 : Int32).toInt = 0 from rfl]; exact z.2.1, by rw [show (5 : Int32).toInt = 5 from rfl]; exact z.2.2⟩)] at q; exact q
  have c2 := bI_n0 c2
  rw [decide_eq_true_eq, show (0 : Int32).toInt = 0 from rfl, show (5 : Int32).toInt = 5 from rfl] at c2
  rw [if_pos ⟨c, c2⟩] at q
  have ea : a = nI a.toInt.toNat := by
    rw [← Int32.toInt_inj, n_T (by omega)]; omega
  have eb : b = nI b.toInt.toNat := by
    rw [← Int32.toInt_inj, n_T (by omega)]; omega
  have hkl : a.toInt.toNat < K.length := by omega
  generalize a.toInt.toNat = k at *
  have hi6 : b.toInt.toNat ≤ 5 := by omega
  generalize b.toInt.toNat = i at *
  subst ea eb
  have hq := hn _ (getD_mem' (d := ([], 0, 0)) hkl)
  obtain ⟨k1, -, -⟩ := hk k hkl
  generalize (K.getD k ([], 0, 0)).1 = w at *
  have hlt := nmL_lt hq
  have z27 : (27 : Int64) = Int64.ofNat 27 := rfl
  have n27 : ¬ (27 : Int64) = 0 := by decide
  rw [show (5 : Int32) + nI k = nI (5 + k) from n_add 5 k, n_tn (by omega), k1]
  refine ⟨(n_in (by omega)).mpr (by omega), ?_⟩
  have hr : ∀ c, c ∈ w.reverse → 1 ≤ c ∧ c < 27 := fun c hc => hq.2 c (List.mem_reverse.mp hc)
  have hlen : w.reverse.length = w.length := List.length_reverse
  have elm : nmL w = nmR w.reverse := rfl
  rw [elm] at hlt ⊢
  have dl : ∀ j, nmR (w.reverse.drop j) ≤ nmR w.reverse := by
    intro j
    induction j with
    | zero => exact Nat.le_refl _
    | succ j ih =>
      by_cases e : j < w.reverse.length
      · have e1 := List.drop_eq_getElem_cons e
        have e2 : nmR (w.reverse.drop j) = 27 * nmR (w.reverse.drop (j + 1)) + w.reverse[j] := by rw [e1]; rfl
        omega
      · have : w.reverse.drop (j + 1) = [] := List.drop_eq_nil_of_le (by omega)
        rw [this]; exact Nat.zero_le _
  -- down to the letter
  have l72 : ∀ (n j x : Nat), x - i = n → x + j + 1 = w.length → i ≤ x → ∀ {o0 o1 o4 o5 o7 : Option Value}, T_letter Q 72 [o0, o1, some (.int (nI i)), some (.long (Int64.ofNat (nmR (w.reverse.drop j)))), o4, o5, some (.int (nI x)), o7] [] M := by
    intro n
    induction n with
    | zero =>
      intro j x hn hx hi o0 o1 o4 o5 o7
      have e : x = i := by omega
      subst e
      have dj := dl j
      refine r_letter_72 ⟨fun _ => ⟨n27, trivial, ?_⟩, fun z => absurd (Int32.le_refl _) z⟩
      have hj : j < w.reverse.length := by omega
      have e1 := List.drop_eq_getElem_cons hj
      have e2 : nmR (w.reverse.drop j) = 27 * nmR (w.reverse.drop (j + 1)) + w.reverse[j] := by rw [e1]; rfl
      have hc := hr _ (List.getElem_mem hj)
      have e3 : w.reverse[j] = w.getD x 0 := by
        rw [List.getElem_reverse, List.getD_eq_getElem?_getD, List.getElem?_eq_getElem (by omega)]
        show w[w.length - 1 - j] = w[x]
        congr 1; omega
      rw [z27, j_rem (by omega) (by omega), e2, Nat.mul_add_mod, Nat.mod_eq_of_lt hc.2, j_to (by omega), e3]
      exact q
    | succ n ih =>
      intro j x hn hx hi o0 o1 o4 o5 o7
      have dj := dl j
      have h6 := hq.1.2
      refine r_letter_72 ?_
      have hj : j < w.reverse.length := by omega
      have e1 := List.drop_eq_getElem_cons hj
      have hc := hr _ (List.getElem_mem hj)
      rw [n_le (by omega) (by omega)]
      refine ⟨fun z => by omega, fun _ => ⟨n27, ?_⟩⟩
      rw [z27, j_div (by omega) (by omega), e1, nmR_div hc.2, show nI x + (-1 : Int32) = nI (x - 1) from by
        rw [← n_sub (a := x) (b := 1) (by omega)]; exact (Int32.sub_eq_add_neg _ _).symm]
      exact ih (j + 1) (x - 1) (by omega) (by omega) (by omega)
  -- how long
  have l37 : ∀ (n j : Nat), w.length - j = n → j ≤ w.length → ∀ {o0 o1 o4 o7 : Option Value}, T_letter Q 37 [o0, o1, some (.int (nI i)), some (.long (Int64.ofNat (nmR w.reverse))), o4, some (.int (nI j)), some (.long (Int64.ofNat (nmR (w.reverse.drop j)))), o7] [] M := by
    intro n
    induction n with
    | zero =>
      intro j hn hj o0 o1 o4 o7
      have e : j = w.length := by omega
      have e0 : w.reverse.drop j = [] := List.drop_eq_nil_of_le (by omega)
      rw [e0]
      refine r_letter_37 ⟨fun _ => ?_, fun z => absurd (by decide) z⟩
      have h6 := hq.1.2
      rw [n_lt (by omega) (by omega)]
      refine ⟨fun z => ?_, fun z => ⟨trivial, ?_⟩⟩
      · rw [show nI j - (1 : Int32) = nI (j - 1) from n_sub (a := j) (b := 1) (by omega)]
        exact l72 _ 0 (j - 1) rfl (by omega) (by omega)
      · have : w.getD i 0 = 0 := by
          rw [List.getD_eq_getElem?_getD, List.getElem?_eq_none (by omega)]; rfl
        rw [this] at q; exact q
    | succ n ih =>
      intro j hn hj o0 o1 o4 o7
      have dj := dl j
      have hj' : j < w.reverse.length := by omega
      have e1 := List.drop_eq_getElem_cons hj'
      have hc := hr _ (List.getElem_mem hj')
      have hp : 0 < nmR (w.reverse.drop j) := by rw [e1]; exact nmR_pos hc.1
      refine r_letter_37 ?_
      rw [lg_cmp_le, show (0 : Int64) = Int64.ofNat 0 from rfl, Int64.le_iff_toInt_le, j_T (by omega), j_T (by omega)]
      refine ⟨fun z => by omega, fun _ => ⟨n27, ?_⟩⟩
      rw [z27, j_div (by omega) (by omega), e1, nmR_div hc.2, show nI j + 1 = nI (j + 1) from n_add j 1]
      exact ih (j + 1) (by omega) (by omega)
  exact l37 _ 0 rfl (by omega)
end
