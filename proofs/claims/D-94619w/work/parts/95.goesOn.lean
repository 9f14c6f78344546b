/-! behind a part of a sum, BorderStonesModel -/
def MX (T : List Nat) (a : Nat) (C W : List Nat) (op ba : Nat) (M : mw) : Prop := MP T a M ∧ MWd M ∧ MEx C W op ba M ∧ C.length + W.length + 5 ≤ a ∧ (∀ u, u ∈ W → u < 100) ∧ ba ≤ W.length ∧ op ≤ 6
theorem MX_a {T : List Nat} {a : Nat} {C W : List Nat} {op ba : Nat} {M : mw} (h : MX T a C W op ba M) : a ≤ 1600 := Nat.le_trans h.1.2.2.2.1 h.1.1.2.2.1
theorem MX_T {T : List Nat} {a b : Nat} {C W : List Nat} {op ba : Nat} {M M' : mw} (h : MX T a C W op ba M) (f : frT M M') (m : MP T b M') (hb : a ≤ b) : MX T b C W op ba M' :=
  ⟨m, MWd_f f h.2.1, MEx_T f h.2.2.1, by have := h.2.2.2.1; omega, h.2.2.2.2.1, h.2.2.2.2.2⟩
theorem on_app {W : List Nat} {u v : Nat} : onB (W ++ [u]) v = decide (u = v) := by
  unfold onB
  rw [List.length_append, List.length_singleton, show W.length + 1 - 1 = W.length from rfl, gd_r, decide_eq_true (by omega), Bool.true_and]
theorem mem_app {W : List Nat} {u n : Nat} (h : ∀ x, x ∈ W → x < n) (hu : u < n) : ∀ x, x ∈ W ++ [u] → x < n := fun x hx => by
  rcases List.mem_append.mp hx with g | g
  · exact h x g
  · rw [List.mem_singleton.mp g]; exact hu
theorem app_mem {W r : List Nat} {n : Nat} (h : ∀ x, x ∈ W ++ r → x < n) : ∀ x, x ∈ W → x < n := fun x hx => h x (List.mem_append_left _ hx)
section
variable {R : Option Value → mw → Prop} {T C W : List Nat} {a op ba : Nat} {M : mw}
/-- the loop that drops products -/
theorem g_158 {v : Nat} (hv : v < 100) (h3 : onB W 3 = false) (h4 : onB W 4 = false) (r : List Nat) : ∀ (C : List Nat) (M : mw), MX T a C (W ++ r.reverse) op ba M → ba ≤ W.length → C.length + W.length + r.length + 6 ≤ a → (∀ u, u ∈ r → u = 3 ∨ u = 4) →
    (∀ M', frD M M' → MX T a (C ++ r) (W ++ [v]) op ba M' → R (some (.int (nI 1))) M') → T_goesOn R 158 [some (.ref 0), some (.int (nI v))] [] M := by
  induction r with
  | nil =>
    intro C M h hb hr _ q
    rw [List.reverse_nil, List.append_nil] at h
    rw [List.append_nil] at q
    have ha := MX_a h
    simp only [List.length_nil] at hr
    obtain ⟨m1, m2, m3, m4, m5, m6, m7⟩ := id h
    refine r_goesOn_158 (s_isOn (v := 3) m3 rfl (by omega) (by omega) m5 (r_goesOn_163 ?_))
    rw [h3]
    refine ⟨fun z => absurd rfl z, fun _ => s_isOn (v := 4) m3 rfl (by omega) (by omega) m5 (r_goesOn_171 ?_)⟩
    rw [h4]
    refine ⟨fun _ => ?_, fun z => absurd rfl z⟩
    rw [m_up, if_neg (by omega), m3.2.1.1, n_tn (by omega), show nI W.length + 1 = nI (W.length + 1) from n_add _ 1]
    have fd : frD M (mM_up (mM_up M 46 W.length (nI v)) 47 0 (nI (W.length + 1))) := frD_up (frD_up (frD_refl M) (by omega)) (by omega)
    exact ⟨(n_in (by omega)).mpr (by omega), nr_1, q _ fd ⟨MP_D fd m1, MWd_D fd m2, MEx_push m3 (by omega), by rw [List.length_append, List.length_singleton]; omega, mem_app m5 hv, by rw [List.length_append]; omega, m7⟩⟩
  | cons u r ih =>
    intro C M h hb hr hu q
    rw [List.reverse_cons, ← List.append_assoc] at h
    have ha := MX_a h
    simp only [List.length_cons] at hr
    have ll : (W ++ r.reverse).length = W.length + r.length := by rw [List.length_append, List.length_reverse]
    obtain ⟨m1, m2, m3, m4, m5, m6, m7⟩ := id h
    rw [List.length_append, List.length_singleton, ll] at m4
    have l1 : (W ++ r.reverse ++ [u]).length < 1700 := by rw [List.length_append, List.length_singleton, ll]; omega
    have dr : V_drops [.ref 0] M (fun v' M1 => T_goesOn R 178 [some (.ref 0), some (.int (nI v))] (v'.toList ++ []) M1) := by
      refine s_drops m3 (by omega) (by omega) (fun M1 f1 e1 => r_goesOn_178 ?_)
      refine ih (C ++ [u]) M1 ⟨MP_D f1 m1, MWd_D f1 m2, e1, by rw [List.length_append, List.length_singleton, ll]; omega, app_mem m5, by rw [ll]; omega, m7⟩ hb (by rw [List.length_append, List.length_singleton]; omega) (fun x hx => hu x (List.mem_cons_of_mem _ hx)) (fun M2 f2 x2 => q M2 (frD_trans f1 f2) ?_)
      rw [List.append_assoc] at x2
      exact x2
    refine r_goesOn_158 (s_isOn (v := 3) m3 rfl (by omega) l1 m5 (r_goesOn_163 ⟨fun _ => dr, fun z => s_isOn (v := 4) m3 rfl (by omega) l1 m5 (r_goesOn_171 ⟨fun z2 => ?_, fun _ => dr⟩)⟩))
    have z := bI_nn0 z
    have z2 := bI_e0 z2
    rw [on_app, decide_eq_false_iff_not] at z z2
    have := hu u (List.mem_cons_self ..)
    omega
/-- the loop that drops products and sums -/
theorem g_243 {v : Nat} (hv : v < 100) (h0 : ∀ u, 1 ≤ u → u ≤ 4 → onB W u = false) (r : List Nat) : ∀ (C : List Nat) (M : mw), MX T a C (W ++ r.reverse) op ba M → ba ≤ W.length → C.length + W.length + r.length + 6 ≤ a → (∀ u, u ∈ r → 1 ≤ u ∧ u ≤ 4) →
    (∀ M', frD M M' → MX T a (C ++ r) (W ++ [v]) op ba M' → R (some (.int (nI 1))) M') → T_goesOn R 243 [some (.ref 0), some (.int (nI v))] [] M := by
  induction r with
  | nil =>
    intro C M h hb hr _ q
    rw [List.reverse_nil, List.append_nil] at h
    rw [List.append_nil] at q
    have ha := MX_a h
    simp only [List.length_nil] at hr
    obtain ⟨m1, m2, m3, m4, m5, m6, m7⟩ := id h
    refine r_goesOn_243 (s_isOn (v := 3) m3 rfl (by omega) (by omega) m5 (r_goesOn_248 ?_))
    rw [h0 3 (by omega) (by omega)]
    refine ⟨fun z => absurd rfl z, fun _ => s_isOn (v := 4) m3 rfl (by omega) (by omega) m5 (r_goesOn_256 ?_)⟩
    rw [h0 4 (by omega) (by omega)]
    refine ⟨fun z => absurd rfl z, fun _ => s_isOn (v := 1) m3 rfl (by omega) (by omega) m5 (r_goesOn_264 ?_)⟩
    rw [h0 1 (by omega) (by omega)]
    refine ⟨fun z => absurd rfl z, fun _ => s_isOn (v := 2) m3 rfl (by omega) (by omega) m5 (r_goesOn_272 ?_)⟩
    rw [h0 2 (by omega) (by omega)]
    refine ⟨fun _ => ?_, fun z => absurd rfl z⟩
    rw [m_up, if_neg (by omega), m3.2.1.1, n_tn (by omega), show nI W.length + 1 = nI (W.length + 1) from n_add _ 1]
    have fd : frD M (mM_up (mM_up M 46 W.length (nI v)) 47 0 (nI (W.length + 1))) := frD_up (frD_up (frD_refl M) (by omega)) (by omega)
    exact ⟨(n_in (by omega)).mpr (by omega), nr_1, q _ fd ⟨MP_D fd m1, MWd_D fd m2, MEx_push m3 (by omega), by rw [List.length_append, List.length_singleton]; omega, mem_app m5 hv, by rw [List.length_append]; omega, m7⟩⟩
  | cons u r ih =>
    intro C M h hb hr hu q
    rw [List.reverse_cons, ← List.append_assoc] at h
    have ha := MX_a h
    simp only [List.length_cons] at hr
    have ll : (W ++ r.reverse).length = W.length + r.length := by rw [List.length_append, List.length_reverse]
    obtain ⟨m1, m2, m3, m4, m5, m6, m7⟩ := id h
    rw [List.length_append, List.length_singleton, ll] at m4
    have l1 : (W ++ r.reverse ++ [u]).length < 1700 := by rw [List.length_append, List.length_singleton, ll]; omega
    have dr : V_drops [.ref 0] M (fun v' M1 => T_goesOn R 279 [some (.ref 0), some (.int (nI v))] (v'.toList ++ []) M1) := by
      refine s_drops m3 (by omega) (by omega) (fun M1 f1 e1 => r_goesOn_279 ?_)
      refine ih (C ++ [u]) M1 ⟨MP_D f1 m1, MWd_D f1 m2, e1, by rw [List.length_append, List.length_singleton, ll]; omega, app_mem m5, by rw [ll]; omega, m7⟩ hb (by rw [List.length_append, List.length_singleton]; omega) (fun x hx => hu x (List.mem_cons_of_mem _ hx)) (fun M2 f2 x2 => q M2 (frD_trans f1 f2) ?_)
      rw [List.append_assoc] at x2
      exact x2
    refine r_goesOn_243 (s_isOn (v := 3) m3 rfl (by omega) l1 m5 (r_goesOn_248 ⟨fun _ => dr, fun z => s_isOn (v := 4) m3 rfl (by omega) l1 m5 (r_goesOn_256 ⟨fun _ => dr, fun z2 => s_isOn (v := 1) m3 rfl (by omega) l1 m5 (r_goesOn_264 ⟨fun _ => dr, fun z3 => s_isOn (v := 2) m3 rfl (by omega) l1 m5 (r_goesOn_272 ⟨fun z4 => ?_, fun _ => dr⟩)⟩)⟩)⟩))
    have z := bI_nn0 z
    have z2 := bI_nn0 z2
    have z3 := bI_nn0 z3
    have z4 := bI_e0 z4
    rw [on_app, decide_eq_false_iff_not] at z z2 z3 z4
    have := hu u (List.mem_cons_self ..)
    omega
def chB (T : List Nat) (b c : Nat) : Bool := decide (b < T.length) && decide (T.getD b 0 = c)
theorem ch_B {b c : Nat} (hT : tpOk T) (hc : c < 256) : (ch T b = nI c) ↔ chB T b c = true := by
  unfold ch chB
  by_cases g : b < T.length
  · have b256 := hT.2 _ (getD_mem g)
    rw [if_pos g, n_eq (by omega) (by omega), decide_eq_true g, Bool.true_and, decide_eq_true_eq]
  · rw [if_neg g, decide_eq_false g, Bool.false_and]
    refine ⟨fun z => ?_, fun z => by cases z⟩
    exact absurd ((n_eqg (a := c) (b := 1) (by omega) (by omega)).mp z.symm).2 (by omega)
theorem chB_ne {b c d : Nat} (h : chB T b c = true) (hd : c ≠ d) : chB T b d = false := by
  unfold chB at *
  rw [Bool.and_eq_true, decide_eq_true_eq, decide_eq_true_eq] at h
  rw [h.2, decide_eq_false hd, Bool.and_false]
/-- a sign that is or is not there -/
theorem g_sign {Q : Option Value → mw → Prop} {c : Nat} {x : Int32} (h : MX T a C W op ba M) (hx : x = nI c) (hc : c < 256) (hn : isLe c = false ∧ isDi c = false) (hs : sk T a = a)
    (q0 : chB T a c = false → ∀ M', frT M M' → MX T a C W op ba M' → Q (some (.int (nI 0))) M') (q1 : chB T a c = true → ∀ M', frT M M' → MX T (a + 1) C W op ba M' → Q (some (.int (nI 1))) M') : V_takesSign [.ref 0, .int x] M Q := by
  have hT := h.1.1.2.2
  refine s_takesSign h.1 hx hc hn (fun z M1 f1 m1 => ?_) (fun z g1 g2 M1 f1 m1 => ?_)
  · rw [hs] at z m1
    refine q0 ?_ M1 f1 (MX_T h f1 m1 (Nat.le_refl _))
    cases y : chB T a c
    · rfl
    · exact absurd ((ch_B hT hc).mpr y) z
  · rw [hs] at z m1
    exact q1 ((ch_B hT hc).mp z) M1 f1 (MX_T h f1 m1 (Nat.le_succ _))
/-- a product goes on -/
theorem g_mul {r : List Nat} (h : MX T a C (W ++ r.reverse) op ba M) (hb : ba ≤ W.length) (h3 : onB W 3 = false) (h4 : onB W 4 = false) (hu : ∀ u, u ∈ r → u = 3 ∨ u = 4) {v : Nat} (hc : (chB T (sk T a) 42 = true ∧ v = 3) ∨ (chB T (sk T a) 47 = true ∧ v = 4))
    (q : ∀ M', frE M M' → MX T (sk T a + 1) (C ++ r) (W ++ [v]) op ba M' → R (some (.int (nI 1))) M') : T_goesOn R 0 [some (.ref 0), none] [] M := by
  have hT := h.1.1.2.2
  have hsk := sk_is T h.1.2.2.2.1
  have hss := sk_sk h.1.2.2.2.1
  refine r_goesOn_0 ⟨fun z => absurd h.1.2.1 z, fun _ => s_look a M h.1 (frT_refl M) (fun M1 f1 m1 => r_goesOn_11 ?_)⟩
  have x1 := MX_T h f1 m1 hsk.1
  generalize sk T a = b at *
  have ne41 : ¬ ch T b = 41 := fun z => by
    have z := (ch_B (b := b) (c := 41) hT (by omega)).mp z
    rcases hc with g | g
    · rw [chB_ne g.1 (by omega)] at z; cases z
    · rw [chB_ne g.1 (by omega)] at z; cases z
  have ll : (W ++ r.reverse).length = W.length + r.length := by rw [List.length_append, List.length_reverse]
  have x4 := x1.2.2.2.1
  rw [ll] at x4
  have go : ∀ (M2 : mw), frT M M2 → MX T (b + 1) C (W ++ r.reverse) op ba M2 → T_goesOn R 158 [some (.ref 0), some (.int (nI v))] [] M2 := fun M2 f2 x2 =>
    g_158 (by rcases hc with g | g <;> omega) h3 h4 r C M2 x2 hb (by omega) hu (fun M3 f3 x3 => q M3 (frE_trans (frE_T f2) (frE_D f3)) x3)
  have tp : ∀ (M2 : mw), MX T (b + 1) C (W ++ r.reverse) op ba M2 → ∀ c, chB T b c = true → M2.1 2 0 - 1 = nI b ∧ M2.1 0 b = nI c ∧ b < 1600 := fun M2 x2 c hcc => by
    have a2 := x2.1.1.2.1
    have a16 := hT.1
    unfold chB at hcc
    rw [Bool.and_eq_true, decide_eq_true_eq, decide_eq_true_eq] at hcc
    refine ⟨?_, by rw [a2 b hcc.1, hcc.2], by omega⟩
    rw [x2.1.2.2.1, show (1 : Int32) = nI 1 from rfl, n_sub (by omega)]; congr 1
  refine ⟨fun _ => g_sign (c := 42) x1 rfl (by omega) (by decide) hss (fun y M2 f2 x2 => r_goesOn_124 ⟨fun z => absurd rfl z, fun _ => g_sign (c := 47) x2 rfl (by omega) (by decide) hss (fun y2 M3 f3 x3 => ?_) (fun y2 M3 f3 x3 => r_goesOn_133 ⟨fun z => absurd z (by decide), fun _ => ?_⟩)⟩) (fun y M2 f2 x2 => r_goesOn_124 ⟨fun _ => ?_, fun z => absurd (by decide) z⟩), fun z => absurd ne41 z⟩
  · rcases hc with g | g
    · rw [g.1] at y; cases y
    · rw [g.1] at y2; cases y2
  · obtain ⟨t1, t2, t3⟩ := tp M3 x3 47 y2
    have ev : v = 4 := by
      rcases hc with g | g
      · rw [g.1] at y; cases y
      · exact g.2
    have gg := go M3 (frT_trans f1 (frT_trans f2 f3)) x3
    rw [ev] at gg
    rw [t1, n_tn (by omega), t2]
    exact ⟨(n_in (by omega)).mpr (by omega), fun _ => gg, fun z => absurd (by decide) z⟩
  · obtain ⟨t1, t2, t3⟩ := tp M2 x2 42 y
    have ev : v = 3 := by
      rcases hc with g | g
      · exact g.2
      · rw [chB_ne y (by omega)] at g; cases g.1
    have gg := go M2 (frT_trans f1 f2) x2
    rw [ev] at gg
    rw [t1, n_tn (by omega), t2]
    exact ⟨(n_in (by omega)).mpr (by omega), fun z => absurd rfl z, fun _ => gg⟩
end
