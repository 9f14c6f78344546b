/-! tests, BorderStonesModel -/
section
variable {R : Option Value → mw → Prop} {T C W : List Nat} {a op ba : Nat} {M : mw}
theorem push_X {v : Nat} (h : MX T a C W op ba M) (hv : v < 100) (hl : C.length + W.length + 6 ≤ a) : frD M (mM_up (mM_up M 46 W.length (nI v)) 47 0 (nI (W.length + 1))) ∧ MX T a C (W ++ [v]) op ba (mM_up (mM_up M 46 W.length (nI v)) 47 0 (nI (W.length + 1))) := by
  have ha := MX_a h
  obtain ⟨m1, m2, m3, m4, m5, m6, m7⟩ := h
  have fd : frD M (mM_up (mM_up M 46 W.length (nI v)) 47 0 (nI (W.length + 1))) := frD_up (frD_up (frD_refl M) (by omega)) (by omega)
  exact ⟨fd, MP_D fd m1, MWd_D fd m2, MEx_push m3 (by omega), by rw [List.length_append, List.length_singleton]; omega, mem_app m5 hv, by rw [List.length_append]; omega, m7⟩
theorem drop_X {Q : Option Value → mw → Prop} {u : Nat} (h : MX T a C (W ++ [u]) op ba M) (hb : ba ≤ W.length) (q : ∀ M', frD M M' → MX T a (C ++ [u]) W op ba M' → Q none M') : V_drops [.ref 0] M Q := by
  have ha := MX_a h
  obtain ⟨m1, m2, m3, m4, m5, m6, m7⟩ := h
  rw [List.length_append, List.length_singleton] at m4
  exact s_drops m3 (by omega) (by omega) (fun M1 f1 e1 => q M1 f1 ⟨MP_D f1 m1, MWd_D f1 m2, e1, by rw [List.length_append, List.length_singleton]; omega, app_mem m5, hb, m7⟩)
theorem on_X {Q : Option Value → mw → Prop} {v : Nat} {x : Int32} (h : MX T a C W op ba M) (hx : x = nI v) (hv : v < 100) (q : Q (some (.int (bI (onB W v)))) M) : V_isOn [.ref 0, .int x] M Q := by
  have ha := MX_a h
  have m4 := h.2.2.2.1
  exact s_isOn h.2.2.1 hx hv (by omega) h.2.2.2.2.1 q
theorem rev_c (W r : List Nat) (u : Nat) : W ++ (u :: r).reverse = (W ++ r.reverse) ++ [u] := by rw [List.reverse_cons, ← List.append_assoc]
/-- 'and': the loop that drops what binds as strongly -/
theorem t_87 (h14 : onB W 14 = false) (r : List Nat) : ∀ (C : List Nat) (M : mw), MX T a C (W ++ r.reverse) op ba M → ba ≤ W.length → C.length + W.length + r.length + 6 ≤ a → (∀ u, u ∈ r → u = 14) →
    (∀ M', frD M M' → MX T a (C ++ r) (W ++ [14]) op ba M' → R (some (.int (nI 1))) M') → T_goesOnTest R 87 [some (.ref 0)] [] M := by
  induction r with
  | nil =>
    intro C M h hb hr _ q
    rw [List.reverse_nil, List.append_nil] at h
    rw [List.append_nil] at q
    have ha := MX_a h
    simp only [List.length_nil] at hr
    refine r_goesOnTest_87 (on_X (v := 14) h rfl (by omega) (r_goesOnTest_93 ?_))
    rw [h14]
    obtain ⟨p1, p2⟩ := push_X (v := 14) h (by omega) (by omega)
    refine ⟨fun _ => ?_, fun z => absurd rfl z⟩
    rw [m_up, if_neg (by omega), h.2.2.1.2.1.1, n_tn (by omega), show nI W.length + 1 = nI (W.length + 1) from n_add _ 1]
    exact ⟨(n_in (by omega)).mpr (by omega), nr_1, q _ p1 p2⟩
  | cons u r ih =>
    intro C M h hb hr hu q
    rw [rev_c] at h
    simp only [List.length_cons] at hr
    have ll : (W ++ r.reverse).length = W.length + r.length := by rw [List.length_append, List.length_reverse]
    refine r_goesOnTest_87 (on_X (v := 14) h rfl (by omega) (r_goesOnTest_93 ?_))
    rw [on_app, decide_eq_true (hu u (List.mem_cons_self ..))]
    refine ⟨fun z => absurd z (by decide), fun _ => drop_X h (by rw [ll]; omega) (fun M1 f1 x1 => r_goesOnTest_100 ?_)⟩
    refine ih (C ++ [u]) M1 x1 hb (by rw [List.length_append, List.length_singleton]; omega) (fun x hx => hu x (List.mem_cons_of_mem _ hx)) (fun M2 f2 x2 => q M2 (frD_trans f1 f2) ?_)
    rw [List.append_assoc] at x2
    exact x2
/-- 'or' -/
theorem t_137 (h14 : onB W 14 = false) (h15 : onB W 15 = false) (r : List Nat) : ∀ (C : List Nat) (M : mw), MX T a C (W ++ r.reverse) op ba M → ba ≤ W.length → C.length + W.length + r.length + 6 ≤ a → (∀ u, u ∈ r → u = 14 ∨ u = 15) →
    (∀ M', frD M M' → MX T a (C ++ r) (W ++ [15]) op ba M' → R (some (.int (nI 1))) M') → T_goesOnTest R 137 [some (.ref 0)] [] M := by
  induction r with
  | nil =>
    intro C M h hb hr _ q
    rw [List.reverse_nil, List.append_nil] at h
    rw [List.append_nil] at q
    have ha := MX_a h
    simp only [List.length_nil] at hr
    refine r_goesOnTest_137 (on_X (v := 14) h rfl (by omega) (r_goesOnTest_143 ?_))
    rw [h14]
    refine ⟨fun z => absurd rfl z, fun _ => on_X (v := 15) h rfl (by omega) (r_goesOnTest_152 ?_)⟩
    rw [h15]
    obtain ⟨p1, p2⟩ := push_X (v := 15) h (by omega) (by omega)
    refine ⟨fun _ => ?_, fun z => absurd rfl z⟩
    rw [m_up, if_neg (by omega), h.2.2.1.2.1.1, n_tn (by omega), show nI W.length + 1 = nI (W.length + 1) from n_add _ 1]
    exact ⟨(n_in (by omega)).mpr (by omega), nr_1, q _ p1 p2⟩
  | cons u r ih =>
    intro C M h hb hr hu q
    rw [rev_c] at h
    simp only [List.length_cons] at hr
    have ll : (W ++ r.reverse).length = W.length + r.length := by rw [List.length_append, List.length_reverse]
    have dr : V_drops [.ref 0] M (fun v' M1 => T_goesOnTest R 159 [some (.ref 0)] (v'.toList ++ []) M1) := by
      refine drop_X h (by rw [ll]; omega) (fun M1 f1 x1 => r_goesOnTest_159 ?_)
      refine ih (C ++ [u]) M1 x1 hb (by rw [List.length_append, List.length_singleton]; omega) (fun x hx => hu x (List.mem_cons_of_mem _ hx)) (fun M2 f2 x2 => q M2 (frD_trans f1 f2) ?_)
      rw [List.append_assoc] at x2
      exact x2
    refine r_goesOnTest_137 (on_X (v := 14) h rfl (by omega) (r_goesOnTest_143 ⟨fun _ => dr, fun z => on_X (v := 15) h rfl (by omega) (r_goesOnTest_152 ⟨fun z2 => ?_, fun _ => dr⟩)⟩))
    have z := bI_nn0 z
    have z2 := bI_e0 z2
    rw [on_app, decide_eq_false_iff_not] at z z2
    have := hu u (List.mem_cons_self ..)
    omega
/-- ']': all is told down to '[' -/
theorem t_33 (r : List Nat) : ∀ (C : List Nat) (M : mw), MX T a C (W ++ [25] ++ r.reverse) (op + 1) ba M → ba ≤ W.length → (∀ u, u ∈ r → u = 14 ∨ u = 15) →
    (∀ M', frD M M' → MX T a (C ++ r) W op ba M' → V_dropsNots [.ref 0] M' (fun v M1 => T_goesOnTest R 73 [some (.ref 0)] (v.toList ++ []) M1)) → T_goesOnTest R 33 [some (.ref 0)] [] M := by
  induction r with
  | nil =>
    intro C M h hb _ q
    rw [List.reverse_nil, List.append_nil] at h
    rw [List.append_nil] at q
    have ha := MX_a h
    obtain ⟨m1, m2, m3, m4, m5, m6, m7⟩ := id h
    rw [List.length_append, List.length_singleton] at m4
    refine r_goesOnTest_33 (on_X (v := 25) h rfl (by omega) (r_goesOnTest_39 ?_))
    rw [on_app]
    refine ⟨fun _ => ?_, fun z => absurd (by decide) z⟩
    obtain ⟨t1, t2⟩ := MEx_top m3
    have e1 : nI (W.length + 1) - 1 = nI W.length := by rw [show (1 : Int32) = nI 1 from rfl, n_sub (by omega)]; congr 1
    have eo : nI (op + 1) - 1 = nI op := by rw [show (1 : Int32) = nI 1 from rfl, n_sub (by omega)]; congr 1
    have r48 : (mM_up M 47 0 (nI W.length)).1 48 0 = nI (op + 1) := by rw [m_up, if_neg (by omega)]; exact m3.2.2.1
    rw [t1, e1, r48, eo]
    have fd : frD M (mM_up (mM_up M 47 0 (nI W.length)) 48 0 (nI op)) := frD_up (frD_up (frD_refl M) (by omega)) (by omega)
    exact q _ fd ⟨MP_D fd m1, MWd_D fd m2, MEx_op (MEx_pop m3), by omega, app_mem m5, hb, by omega⟩
  | cons u r ih =>
    intro C M h hb hu q
    rw [rev_c] at h
    refine r_goesOnTest_33 (on_X (v := 25) h rfl (by omega) (r_goesOnTest_39 ⟨fun z => ?_, fun _ => drop_X h (by rw [List.length_append, List.length_append]; omega) (fun M1 f1 x1 => r_goesOnTest_46 ?_)⟩))
    · have z := bI_n0 z
      rw [on_app, decide_eq_true_eq] at z
      have := hu u (List.mem_cons_self ..)
      omega
    · refine ih (C ++ [u]) M1 x1 hb (fun x hx => hu x (List.mem_cons_of_mem _ hx)) (fun M2 f2 x2 => q M2 (frD_trans f1 f2) ?_)
      rw [List.append_assoc] at x2
      exact x2
end
