/-! codes and what waits, BorderStonesModel -/
def frD (M M' : mw) : Prop := M'.2 = M.2 ∧ (∀ j, (j < 44 ∨ 48 < j) → j ≠ 53 → M'.1 j = M.1 j) ∧ ∀ k, 1600 ≤ k → M'.1 44 k = M.1 44 k
theorem frD_refl (M : mw) : frD M M := ⟨rfl, fun _ _ _ => rfl, fun _ _ => rfl⟩
theorem frD_trans {M M1 M2 : mw} (h : frD M M1) (g : frD M1 M2) : frD M M2 := ⟨g.1.trans h.1, fun j a b => (g.2.1 j a b).trans (h.2.1 j a b), fun k hk => (g.2.2 k hk).trans (h.2.2 k hk)⟩
theorem frD_up {M M1 : mw} {k i : Nat} {v : Int32} (h : frD M M1) (hk : (k = 44 ∧ i < 1600) ∨ k = 45 ∨ k = 46 ∨ k = 47 ∨ k = 48 ∨ k = 53) : frD M (mM_up M1 k i v) := frD_trans h ⟨rfl, fun j a b => by funext u; rw [m_up, if_neg (by omega)], fun u hu => by rw [m_up, if_neg (by omega)]⟩
theorem MP_D {T : List Nat} {a : Nat} {M M' : mw} (h : frD M M') (g : MP T a M) : MP T a M' := by
  obtain ⟨⟨a1, a2, a3⟩, a4, a5, a6, a7⟩ := g
  have e := fun j (hj : j < 44) => h.2.1 j (Or.inl hj) (by omega)
  exact ⟨⟨by rw [e 3 (by omega)]; exact a1, fun k hk => by rw [e 0 (by omega)]; exact a2 k hk, a3⟩, by rw [e 5 (by omega)]; exact a4, by rw [e 2 (by omega)]; exact a5, a6, by rw [e 4 (by omega)]; exact a7⟩
theorem MWd_D {M M' : mw} (h : frD M M') (g : MWd M) : MWd M' := fun k h1 h2 i hi => by
  rw [h.2.1 k (by omega) (by omega)]; exact g k h1 h2 i hi
theorem MBad_D {M M' : mw} {kd pl : Nat} (h : frD M M') (g : MBad kd pl M) : MBad kd pl M' := by
  obtain ⟨a, b, c⟩ := g
  exact ⟨by rw [h.2.1 5 (by omega) (by omega)]; exact a, by rw [h.2.1 6 (by omega) (by omega)]; exact b, c⟩
/-- what reading a sum or a test may alter -/
def frE (M M' : mw) : Prop := M'.2 = M.2 ∧ (∀ j, j ≠ 2 → j ≠ 4 → j ≠ 5 → j ≠ 6 → j ≠ 9 → j ≠ 32 → (j < 44 ∨ 48 < j) → j ≠ 53 → M'.1 j = M.1 j) ∧ (∀ k, 1600 ≤ k → M'.1 44 k = M.1 44 k) ∧ bd6 M M'
theorem frE_refl (M : mw) : frE M M := ⟨rfl, fun _ _ _ _ _ _ _ _ _ => rfl, fun _ _ => rfl, fun h => ⟨h, rfl⟩⟩
theorem frE_trans {M M1 M2 : mw} (h : frE M M1) (g : frE M1 M2) : frE M M2 := ⟨g.1.trans h.1, fun j a b c d e f i k => (g.2.1 j a b c d e f i k).trans (h.2.1 j a b c d e f i k), fun k hk => (g.2.2.1 k hk).trans (h.2.2.1 k hk), bd6_trans h.2.2.2 g.2.2.2⟩
theorem frE_T {M M' : mw} (h : frT M M') : frE M M' := ⟨h.1, fun j a b c d e f _ _ => h.2.1 j a b c d e f, fun k _ => by rw [h.2.1 44 (by omega) (by omega) (by omega) (by omega) (by omega) (by omega)], h.2.2⟩
theorem frE_D {M M' : mw} (h : frD M M') : frE M M' := ⟨h.1, fun j _ _ _ _ _ _ a b => h.2.1 j a b, h.2.2, fun z => ⟨by rw [← h.2.1 5 (by omega) (by omega)]; exact z, h.2.1 6 (by omega) (by omega)⟩⟩
/-- codes, what waits, how many are open, where the sum began -/
def MEx (C W : List Nat) (op ba : Nat) (M : mw) : Prop := (M.1 45 0 = nI C.length ∧ ∀ k, k < C.length → M.1 44 k = nI (C.getD k 0)) ∧ (M.1 47 0 = nI W.length ∧ ∀ k, k < W.length → M.1 46 k = nI (W.getD k 0)) ∧ M.1 48 0 = nI op ∧ M.1 53 0 = nI ba
theorem MEx_T {C W : List Nat} {op ba : Nat} {M M' : mw} (h : frT M M') (g : MEx C W op ba M) : MEx C W op ba M' := by
  have e := fun j (hj : 44 ≤ j) => h.2.1 j (by omega) (by omega) (by omega) (by omega) (by omega) (by omega)
  obtain ⟨⟨a, b⟩, ⟨c, d⟩, f, i⟩ := g
  exact ⟨⟨by rw [e 45 (by omega)]; exact a, fun k hk => by rw [e 44 (by omega)]; exact b k hk⟩, ⟨by rw [e 47 (by omega)]; exact c, fun k hk => by rw [e 46 (by omega)]; exact d k hk⟩, by rw [e 48 (by omega)]; exact f, by rw [e 53 (by omega)]; exact i⟩
section
variable {Q : Option Value → mw → Prop} {M : mw} {C W : List Nat} {op ba : Nat}
theorem s_code {v : Nat} {x : Int32} (h : MEx C W op ba M) (hx : x = nI v) (hl : C.length < 1600) (q : ∀ M', frD M M' → MEx (C ++ [v]) W op ba M' → Q none M') : V_code [.ref 0, .int x] M Q := by
  subst hx
  obtain ⟨⟨a, b⟩, ⟨c, d⟩, f, i⟩ := h
  refine e_code (r_code_0 ?_)
  rw [m_up, if_neg (by omega), a, show (0 : Int32) + nI C.length = nI (0 + C.length) from n_add 0 _, Nat.zero_add, n_tn (by omega), show nI C.length + 1 = nI (C.length + 1) from n_add _ 1]
  refine ⟨(n_in (by omega)).mpr (by omega), rfl, q _ (frD_up (frD_up (frD_refl M) (by omega)) (by omega)) ⟨⟨?_, fun k hk => ?_⟩, ⟨?_, fun k hk => ?_⟩, ?_, ?_⟩⟩
  · rw [m_up, if_pos ⟨rfl, rfl⟩, List.length_append, List.length_singleton]
  · rw [List.length_append, List.length_singleton] at hk
    rw [m_up, if_neg (by omega), m_up]
    by_cases e : k = C.length
    · rw [if_pos ⟨rfl, e⟩, e, gd_r]
    · rw [if_neg (by omega), gd_l (by omega)]; exact b k (by omega)
  · rw [m_up, if_neg (by omega), m_up, if_neg (by omega)]; exact c
  · rw [m_up, if_neg (by omega), m_up, if_neg (by omega)]; exact d k hk
  · rw [m_up, if_neg (by omega), m_up, if_neg (by omega)]; exact f
  · rw [m_up, if_neg (by omega), m_up, if_neg (by omega)]; exact i
/-- something waits -/
theorem MEx_push {v : Nat} (h : MEx C W op ba M) (hl : W.length < 1700) : MEx C (W ++ [v]) op ba (mM_up (mM_up M 46 W.length (nI v)) 47 0 (nI (W.length + 1))) := by
  obtain ⟨⟨a, b⟩, ⟨c, d⟩, f, i⟩ := h
  refine ⟨⟨?_, fun k hk => ?_⟩, ⟨?_, fun k hk => ?_⟩, ?_, ?_⟩
  · rw [m_up, if_neg (by omega), m_up, if_neg (by omega)]; exact a
  · rw [m_up, if_neg (by omega), m_up, if_neg (by omega)]; exact b k hk
  · rw [m_up, if_pos ⟨rfl, rfl⟩, List.length_append, List.length_singleton]
  · rw [List.length_append, List.length_singleton] at hk
    rw [m_up, if_neg (by omega), m_up]
    by_cases e : k = W.length
    · rw [if_pos ⟨rfl, e⟩, e, gd_r]
    · rw [if_neg (by omega), gd_l (by omega)]; exact d k (by omega)
  · rw [m_up, if_neg (by omega), m_up, if_neg (by omega)]; exact f
  · rw [m_up, if_neg (by omega), m_up, if_neg (by omega)]; exact i
theorem MEx_op {n : Nat} (h : MEx C W op ba M) : MEx C W n ba (mM_up M 48 0 (nI n)) := by
  obtain ⟨⟨a, b⟩, ⟨c, d⟩, f, i⟩ := h
  exact ⟨⟨by rw [m_up, if_neg (by omega)]; exact a, fun k hk => by rw [m_up, if_neg (by omega)]; exact b k hk⟩, ⟨by rw [m_up, if_neg (by omega)]; exact c, fun k hk => by rw [m_up, if_neg (by omega)]; exact d k hk⟩, by rw [m_up, if_pos ⟨rfl, rfl⟩], by rw [m_up, if_neg (by omega)]; exact i⟩
theorem MEx_base {n : Nat} (h : MEx C W op ba M) : MEx C W op n (mM_up M 53 0 (nI n)) := by
  obtain ⟨⟨a, b⟩, ⟨c, d⟩, f, i⟩ := h
  exact ⟨⟨by rw [m_up, if_neg (by omega)]; exact a, fun k hk => by rw [m_up, if_neg (by omega)]; exact b k hk⟩, ⟨by rw [m_up, if_neg (by omega)]; exact c, fun k hk => by rw [m_up, if_neg (by omega)]; exact d k hk⟩, by rw [m_up, if_neg (by omega)]; exact f, by rw [m_up, if_pos ⟨rfl, rfl⟩]⟩
/-- the last that waits is gone -/
theorem MEx_pop {v : Nat} (h : MEx C (W ++ [v]) op ba M) : MEx C W op ba (mM_up M 47 0 (nI W.length)) := by
  obtain ⟨⟨a, b⟩, ⟨c, d⟩, f, i⟩ := h
  refine ⟨⟨by rw [m_up, if_neg (by omega)]; exact a, fun k hk => by rw [m_up, if_neg (by omega)]; exact b k hk⟩, ⟨by rw [m_up, if_pos ⟨rfl, rfl⟩], fun k hk => ?_⟩, by rw [m_up, if_neg (by omega)]; exact f, by rw [m_up, if_neg (by omega)]; exact i⟩
  rw [m_up, if_neg (by omega), d k (by rw [List.length_append, List.length_singleton]; omega), gd_l hk]
theorem MEx_top {v : Nat} (h : MEx C (W ++ [v]) op ba M) : M.1 47 0 = nI (W.length + 1) ∧ M.1 46 W.length = nI v := by
  obtain ⟨_, ⟨c, d⟩, _⟩ := h
  rw [List.length_append, List.length_singleton] at c d
  exact ⟨c, by rw [d W.length (by omega), gd_r]⟩
theorem s_opens {v pl : Nat} {x y : Int32} (hb : M.1 5 0 = 0) (h : MEx C W op ba M) (ho : op ≤ 6) (hx : x = nI v) (hy : y = nI pl) (hl : W.length < 1700)
    (q0 : op = 6 → ∀ M', frT M M' → MBad 4 pl M' → Q none M') (q1 : op < 6 → ∀ M', frD M M' → MEx C (W ++ [v]) (op + 1) ba M' → Q none M') : V_opens [.ref 0, .int x, .int y] M Q := by
  subst hx
  refine e_opens (r_opens_0 ?_)
  rw [show (mM_up M 48 0 (M.1 48 0 + 1)).1 47 0 = nI W.length from by rw [m_up, if_neg (by omega)]; exact h.2.1.1, n_tn (by omega)]
  rw [show (mM_up (mM_up M 48 0 (M.1 48 0 + 1)) 46 W.length (nI v)).1 47 0 = nI W.length from by rw [m_up, if_neg (by omega), m_up, if_neg (by omega)]; exact h.2.1.1]
  rw [h.2.2.1, show nI op + 1 = nI (op + 1) from n_add _ 1, show nI W.length + 1 = nI (W.length + 1) from n_add _ 1, show (nI op = (6 : Int32)) ↔ op = 6 from n_eq (b := 6) (by omega) (by omega)]
  refine ⟨fun c => ⟨(n_in (by omega)).mpr (by omega), rfl, q1 (by omega) _ (frD_up (frD_up (frD_up (frD_refl M) (by omega)) (by omega)) (by omega)) (MEx_push (MEx_op h) hl)⟩, fun c => s_fail (kd := 4) (pl := pl) hb rfl hy (by omega) (fun M1 f1 _ b1 => r_opens_15 ⟨rfl, q0 (by omega) M1 f1 b1⟩)⟩
def onB (W : List Nat) (v : Nat) : Bool := decide (0 < W.length) && decide (W.getD (W.length - 1) 0 = v)
theorem s_isOn {v : Nat} {x : Int32} (h : MEx C W op ba M) (hx : x = nI v) (hv : v < 100) (hl : W.length < 1700) (hw : ∀ u, u ∈ W → u < 100) (q : Q (some (.int (bI (onB W v)))) M) : V_isOn [.ref 0, .int x] M Q := by
  subst hx
  refine e_isOn (r_isOn_0 ?_)
  rw [h.2.1.1, show (nI W.length ≤ (0 : Int32)) ↔ W.length ≤ 0 from n_le (b := 0) (by omega) (by omega)]
  unfold onB at q
  refine ⟨fun c => ⟨nr_0, ?_⟩, fun c => ?_⟩
  · rw [decide_eq_false (by omega)] at q; exact q
  · rw [show nI W.length - 1 = nI (W.length - 1) from n_sub (b := 1) (by omega), n_tn (by omega), h.2.1.2 _ (by omega), n_eq (by have := hw _ (getD_mem (show W.length - 1 < W.length by omega)); omega) (by omega)]
    rw [decide_eq_true (show 0 < W.length by omega), Bool.true_and] at q
    refine ⟨(n_in (by omega)).mpr (by omega), fun c2 => ⟨nr_0, ?_⟩, fun c2 => ⟨nr_1, ?_⟩⟩
    · rw [decide_eq_false c2] at q; exact q
    · rw [decide_eq_true (Decidable.not_not.mp c2)] at q; exact q
theorem s_drops {v : Nat} (h : MEx C (W ++ [v]) op ba M) (hl : W.length < 1700) (hc : C.length < 1600) (q : ∀ M', frD M M' → MEx (C ++ [v]) W op ba M' → Q none M') : V_drops [.ref 0] M Q := by
  obtain ⟨t1, t2⟩ := MEx_top h
  have e1 : nI (W.length + 1) - 1 = nI W.length := by rw [show (1 : Int32) = nI 1 from rfl, n_sub (by omega)]; congr 1
  refine e_drops (r_drops_0 ?_)
  rw [t1, e1, show (mM_up M 47 0 (nI W.length)).1 47 0 = nI W.length from by rw [m_up, if_pos ⟨rfl, rfl⟩], n_tn (by omega), show (mM_up M 47 0 (nI W.length)).1 46 W.length = nI v from by rw [m_up, if_neg (by omega)]; exact t2]
  refine ⟨(n_in (by omega)).mpr (by omega), s_code (MEx_pop h) rfl hc (fun M2 f2 m2 => r_drops_23 ⟨rfl, q M2 (frD_trans (frD_up (frD_refl M) (by omega)) f2) m2⟩)⟩
def isMk (v : Nat) : Bool := decide (20 ≤ v) && decide (v ≤ 24)
theorem s_isMark {v : Nat} {x : Int32} (hx : x = nI v) (hv : v < 100) (q : Q (some (.int (bI (isMk v)))) M) : V_isMark [.ref 0, .int x] M Q := by
  subst hx
  refine e_isMark (r_isMark_0 ?_)
  rw [show (nI v < (20 : Int32)) ↔ v < 20 from n_lt (b := 20) (by omega) (by omega), show ((24 : Int32) < nI v) ↔ 24 < v from n_lt (a := 24) (by omega) (by omega)]
  unfold isMk at q
  refine ⟨fun c => ⟨nr_0, ?_⟩, fun c => ⟨fun c2 => ⟨nr_0, ?_⟩, fun c2 => ⟨nr_1, ?_⟩⟩⟩
  · rw [decide_eq_false (by omega)] at q; exact q
  · rw [decide_eq_false (show ¬ v ≤ 24 by omega), Bool.and_false] at q; exact q
  · rw [decide_eq_true (by omega), decide_eq_true (by omega)] at q; exact q
/-- what is open last -/
def mkW (W : List Nat) (ba : Nat) : Nat → Int32
  | 0 => -nI 1
  | n + 1 => if n < ba then -nI 1 else if isMk (W.getD n 0) = true then nI (W.getD n 0) else mkW W ba n
theorem s_mark (h : MEx C W op ba M) (hb : ba ≤ W.length) (hl : W.length < 1700) (hw : ∀ u, u ∈ W → u < 100) (q : Q (some (.int (mkW W ba W.length))) M) : V_mark [.ref 0] M Q := by
  have main : ∀ n, ba ≤ n → n ≤ W.length → mkW W ba W.length = mkW W ba n → T_mark Q 7 [some (.ref 0), some (.int (nI n - 1))] [] M := by
    intro n
    induction n with
    | zero =>
      intro h0 _ hm
      have e : ba = 0 := by omega
      refine r_mark_7 ?_
      rw [h.2.2.2, e]
      have c : (nI 0 - 1 : Int32) < nI 0 := by decide
      refine ⟨fun _ => ⟨fun _ => ⟨trivial, ?_⟩, fun z => absurd c z⟩, fun z => absurd c z⟩
      rw [hm] at q; exact q
    | succ n ih =>
      intro h0 hn hm
      have e1 : nI (n + 1) - 1 = nI n := by rw [show (1 : Int32) = nI 1 from rfl, n_sub (by omega)]; congr 1
      refine r_mark_7 ?_
      have em : mkW W ba (n + 1) = if n < ba then -nI 1 else if isMk (W.getD n 0) = true then nI (W.getD n 0) else mkW W ba n := rfl
      rw [h.2.2.2, e1, n_lt (by omega) (by omega), n_tn (by omega), h.2.1.2 n (by omega)]
      refine ⟨fun c => ⟨fun _ => ⟨trivial, ?_⟩, fun z => absurd c z⟩, fun c => ⟨(n_in (by omega)).mpr (by omega), ?_⟩⟩
      · rw [hm, em, if_pos c] at q; exact q
      · rw [if_neg c] at em
        have b1 := hw _ (getD_mem (show n < W.length by omega))
        refine s_isMark rfl b1 (r_mark_25 ?_)
        rw [h.2.2.2, n_lt (by omega) (by omega), n_tn (by omega), h.2.1.2 n (by omega)]
        refine ⟨fun z => ⟨fun z2 => absurd z2 c, fun _ => ⟨(n_in (by omega)).mpr (by omega), trivial, ?_⟩⟩, fun z => ?_⟩
        · rw [hm, em, if_pos (bI_n0 z)] at q; exact q
        · have z := bI_nn0 z
          rw [show (nI n + -1 : Int32) = nI n - 1 from by rw [Int32.sub_eq_add_neg]]
          refine ih (by omega) (by omega) ?_
          rw [hm, em, if_neg (by rw [z]; decide)]
  refine e_mark (r_mark_0 ?_)
  rw [h.2.1.1]
  exact main W.length hb (Nat.le_refl _) rfl
/-- all that waits behind a mark is told -/
theorem s_dropsToMark {W0 : List Nat} (hb : ba ≤ W0.length) (ht : W0.length = ba ∨ isMk (W0.getD (W0.length - 1) 0) = true) (hw0 : ∀ u, u ∈ W0 → u < 100) (r : List Nat) : ∀ (C : List Nat) (M : mw), MEx C (W0 ++ r.reverse) op ba M → (∀ u, u ∈ r → u < 20) → C.length + W0.length + r.length ≤ 1600 → (∀ M', frD M M' → MEx (C ++ r) W0 op ba M' → Q none M') → T_dropsToMark Q 0 [some (.ref 0)] [] M := by
  induction r with
  | nil =>
    intro C M h _ hl q
    rw [List.reverse_nil, List.append_nil] at h
    rw [List.append_nil] at q
    simp only [List.length_nil] at hl
    refine r_dropsToMark_0 ?_
    rw [h.2.1.1, h.2.2.2, n_le (by omega) (by omega)]
    refine ⟨fun _ => ⟨rfl, q M (frD_refl M) h⟩, fun c => ?_⟩
    have e1 : nI W0.length - 1 = nI (W0.length - 1) := n_sub (b := 1) (by omega)
    rw [e1, n_tn (by omega), h.2.1.2 _ (by omega)]
    refine ⟨(n_in (by omega)).mpr (by omega), s_isMark rfl (hw0 _ (getD_mem (by omega))) (r_dropsToMark_26 ⟨fun _ => ⟨rfl, q M (frD_refl M) h⟩, fun z => ?_⟩)⟩
    rcases ht with g | g
    · omega
    · rw [g] at z; exact absurd (by decide) z
  | cons v r ih =>
    intro C M h hr hl q
    rw [List.reverse_cons, ← List.append_assoc] at h
    obtain ⟨t1, t2⟩ := MEx_top h
    have ll : (W0 ++ r.reverse).length = W0.length + r.length := by rw [List.length_append, List.length_reverse]
    simp only [List.length_cons] at hl
    have e1 : nI ((W0 ++ r.reverse).length + 1) - 1 = nI (W0 ++ r.reverse).length := by rw [show (1 : Int32) = nI 1 from rfl, n_sub (by omega)]; congr 1
    have hv := hr v (List.mem_cons_self ..)
    refine r_dropsToMark_0 ?_
    rw [t1, h.2.2.2, n_le (by omega) (by omega), e1, n_tn (by omega), t2]
    refine ⟨fun c => by omega, fun _ => ⟨(n_in (by omega)).mpr (by omega), s_isMark rfl (by omega) (r_dropsToMark_26 ⟨fun z => ?_, fun _ => ?_⟩)⟩⟩
    · have : isMk v = false := by unfold isMk; rw [decide_eq_false (by omega)]; rfl
      rw [this] at z; exact absurd rfl z
    · refine s_drops h (by omega) (by omega) (fun M1 f1 m1 => r_dropsToMark_33 ?_)
      refine ih (C ++ [v]) M1 m1 (fun u hu => hr u (List.mem_cons_of_mem _ hu)) (by rw [List.length_append, List.length_singleton]; omega) (fun M2 f2 m2 => q M2 (frD_trans f1 f2) ?_)
      rw [List.append_assoc] at m2
      exact m2
end
