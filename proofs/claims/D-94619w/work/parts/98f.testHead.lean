/-! heads of tests, BorderStonesModel -/
section
variable {R Q : Option Value → mw → Prop} {T C W : List Nat} {a op ba : Nat} {M : mw}
theorem sq_in (W p : List Nat) : sqB (W ++ [25] ++ p) = true := by
  unfold sqB
  rw [List.any_eq_true]
  refine ⟨W.length, List.mem_range.mpr (by simp only [List.length_append, List.length_singleton]; omega), decide_eq_true ?_⟩
  rw [gd_l (by rw [List.length_append]; simp), gd_r]
/-- behind a fact -/
def AF (R : Option Value → mw → Prop) (M : mw) : Prop := ∀ K : Option Value → mw → Prop, (∀ M', M'.1 5 0 = 0 → T_goesOnTest R 0 [some (.ref 0)] [] M' → K none M') → T_dropsNots K 0 [some (.ref 0)] [] M
theorem AF_go (h : MX T a C W op ba M) (hn : onB W 16 = false) (g : T_goesOnTest R 0 [some (.ref 0)] [] M) : AF R M := by
  intro K k
  refine r_dropsNots_0 ⟨fun z => absurd h.1.2.1 z, fun _ => on_X (v := 16) h rfl (by omega) (r_dropsNots_13 ?_)⟩
  rw [hn]
  exact ⟨fun _ => ⟨rfl, k M h.1.2.1 g⟩, fun z => absurd rfl z⟩
theorem AF_not (h : MX T a C (W ++ [16]) (op + 1) ba M) (hb : ba ≤ W.length) (q : ∀ M', frD M M' → MX T a (C ++ [16]) W op ba M' → AF R M') : AF R M := by
  intro K k
  have o6 := h.2.2.2.2.2.2
  refine r_dropsNots_0 ⟨fun z => absurd h.1.2.1 z, fun _ => on_X (v := 16) h rfl (by omega) (r_dropsNots_13 ?_)⟩
  rw [on_app]
  refine ⟨fun z => absurd z (by decide), fun _ => ?_⟩
  have eo : nI (op + 1) - 1 = nI op := by rw [show (1 : Int32) = nI 1 from rfl, n_sub (by omega)]; congr 1
  rw [h.2.2.1.2.2.1, eo]
  have fd : frD M (mM_up M 48 0 (nI op)) := frD_up (frD_refl M) (by omega)
  have x1 : MX T a C (W ++ [16]) op ba (mM_up M 48 0 (nI op)) := ⟨MP_D fd h.1, MWd_D fd h.2.1, MEx_op h.2.2.1, h.2.2.2.1, h.2.2.2.2.1, h.2.2.2.2.2.1, by omega⟩
  exact drop_X x1 hb (fun M1 f1 x1 => r_dropsNots_30 (q M1 (frD_trans fd f1) x1 K k))
/-- ']' -/
theorem t_shut {r : List Nat} (h : MX T a C (W ++ [25] ++ r.reverse) (op + 1) ba M) (hb : ba ≤ W.length) (hu : ∀ u, u ∈ r → u = 14 ∨ u = 15) (hc : chB T (sk T a) 93 = true)
    (q : ∀ M', frE M M' → MX T (sk T a + 1) (C ++ r) W op ba M' → AF R M') : T_goesOnTest R 0 [some (.ref 0)] [] M := by
  have hT := h.1.1.2.2
  have hsk := sk_is T h.1.2.2.2.1
  have ha := MX_a h
  have m4 := h.2.2.2.1
  refine r_goesOnTest_0 ⟨fun z => absurd h.1.2.1 z, fun _ => s_look a M h.1 (frT_refl M) (fun M1 f1 m1 => r_goesOnTest_11 ?_)⟩
  have x1 := MX_T h f1 m1 hsk.1
  have x16 := MX_a x1
  generalize sk T a = b at *
  have hbl : b < T.length ∧ T.getD b 0 = 93 := by
    unfold chB at hc
    rw [Bool.and_eq_true, decide_eq_true_eq, decide_eq_true_eq] at hc
    exact hc
  refine ⟨fun z => absurd ((ch_B (c := 93) hT (by omega)).mpr hc) z, fun _ => s_hasSquare x1.2.2.1 (by omega) x1.2.2.2.2.1 (r_goesOnTest_20 ?_)⟩
  rw [sq_in]
  refine ⟨fun z => absurd z (by decide), fun _ => ?_⟩
  rw [m1.2.2.1, show nI b + 1 = nI (b + 1) from n_add b 1]
  have fu : frT M1 (mM_up M1 2 0 (nI (b + 1))) := frT_up (frT_refl M1) (by omega)
  have m2 : MP T (b + 1) (mM_up M1 2 0 (nI (b + 1))) := ⟨MPt_f fu m1.1, by rw [m_up, if_neg (by omega)]; exact m1.2.1, by rw [m_up, if_pos ⟨rfl, rfl⟩], by omega, by rw [m_up, if_neg (by omega)]; exact en_next m1.2.2.2.2 (by omega) (by rw [hbl.2]; decide)⟩
  have x2 := MX_T x1 fu m2 (Nat.le_succ _)
  exact t_33 r C _ x2 hb hu (fun M3 f3 x3 => e_dropsNots (q M3 (frE_trans (frE_T (frT_trans f1 fu)) (frE_D f3)) x3 _ (fun M4 _ g => r_goesOnTest_73 g)))
theorem h_bad {kd pl : Nat} {x : Int32} (h : MBad kd pl M) (q : Q none M) (o2 : Option Value) : T_test Q 2 [some (.ref 0), some (.int x), o2] [] M := by
  have e : ∀ (o1 : Option Value), T_test Q 110 [some (.ref 0), o1, none] [] M := fun o1 => r_test_110 ⟨fun _ => ⟨rfl, q⟩, fun z => absurd (MBad_ne h) z⟩
  exact r_test_2 ⟨fun _ => e _, fun _ => ⟨fun _ => e _, fun z => absurd (MBad_ne h) z⟩⟩
/-- '[' -/
theorem h_open (h : MX T a C W op ba M) (hc : chB T (sk T a) 91 = true)
    (q0 : op = 6 → ∀ M', frE M M' → MBad 4 (sk T a) M' → Q none M')
    (q1 : op < 6 → ∀ M', frE M M' → MX T (sk T a + 1) C (W ++ [25]) (op + 1) ba M' → ∀ (o2 : Option Value), T_test Q 2 [some (.ref 0), some (.int (nI 1)), o2] [] M') (o2 : Option Value) : T_test Q 2 [some (.ref 0), some (.int (nI 1)), o2] [] M := by
  have hT := h.1.1.2.2
  have hsk := sk_is T h.1.2.2.2.1
  refine r_test_2 ⟨fun z => absurd z (by decide), fun _ => ⟨fun z => absurd h.1.2.1 z, fun _ => s_look a M h.1 (frT_refl M) (fun M1 f1 m1 => r_test_17 ?_)⟩⟩
  have x1 := MX_T h f1 m1 hsk.1
  have x16 := MX_a x1
  have x4 := x1.2.2.2.1
  generalize sk T a = b at *
  have hbl : b < T.length ∧ T.getD b 0 = 91 := by
    unfold chB at hc
    rw [Bool.and_eq_true, decide_eq_true_eq, decide_eq_true_eq] at hc
    exact hc
  refine ⟨fun z => absurd ((ch_B (c := 91) hT (by omega)).mpr hc) z, fun _ => s_opens (v := 25) (pl := b) m1.2.1 x1.2.2.1 x1.2.2.2.2.2.2 rfl m1.2.2.1 (by omega) (fun o6 M2 f2 b2 => r_test_34 ?_) (fun o6 M2 f2 e2 => r_test_34 ?_)⟩
  · exact h_bad (MBad_up b2 (by omega)) (q0 o6 _ (frE_T (frT_up (frT_trans f1 f2) (by omega))) (MBad_up b2 (by omega))) _
  · have m2 := MP_D f2 m1
    rw [m2.2.2.1, show nI b + 1 = nI (b + 1) from n_add b 1]
    have fu : frT M2 (mM_up M2 2 0 (nI (b + 1))) := frT_up (frT_refl M2) (by omega)
    exact q1 o6 _ (frE_trans (frE_T f1) (frE_trans (frE_D f2) (frE_T fu))) ⟨⟨MPt_f fu m2.1, by rw [m_up, if_neg (by omega)]; exact m2.2.1, by rw [m_up, if_pos ⟨rfl, rfl⟩], by omega, by rw [m_up, if_neg (by omega)]; exact en_next m2.2.2.2.2 (by omega) (by rw [hbl.2]; decide)⟩, MWd_f fu (MWd_D f2 x1.2.1), MEx_T fu e2, by rw [List.length_append, List.length_singleton]; omega, mem_app x1.2.2.2.2.1 (by omega), by rw [List.length_append]; have := x1.2.2.2.2.2.1; omega, by omega⟩ _
end
